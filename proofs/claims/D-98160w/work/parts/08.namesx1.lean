/-! java/util/AbstractCollection -/
set_option maxRecDepth 100000
def RJ0 : String := "java/util/AbstractCollection"
abbrev cJ0_init : ByteArray := prog_35_method_1_code
def yJ0_init : MethodName := ⟨RJ0, "<init>", "()V"⟩
theorem dJ0_init_0 : decode cJ0_init 0 = .ok (.aload_n 0, 1) := by decide +kernel
theorem dJ0_init_1 : decode cJ0_init 1 = .ok (.invokespecial 1, 3) := by decide +kernel
theorem dJ0_init_4 : decode cJ0_init 4 = .ok (.return_, 1) := by decide +kernel
theorem q147 : (Jvm.Cond.initialized "java/util/AbstractCollection") ∈ lw_all := lw_g (lw_at lw_m1 3 rfl) rfl
theorem q201 : (Jvm.Cond.instanceMethod ({ cls := "java/util/AbstractCollection", name := "<init>", desc := "()V" } : Jvm.MethodName)) ∈ lw_all := lw_g (lw_at lw_m1 57 rfl) rfl
theorem q202 : (Jvm.Cond.code ({ cls := "java/util/AbstractCollection", name := "<init>", desc := "()V" } : Jvm.MethodName) prog_35_method_1_code (1 : Nat) (Option.none : Option Jvm.ClassFile.FieldType)) ∈ lw_all := lw_g (lw_at lw_m1 58 rfl) rfl
theorem q203 : (Jvm.Cond.methodLink "java/util/AbstractCollection" (1 : Nat) ({ cls := "java/lang/Object", name := "<init>", desc := "()V" } : Jvm.MethodName)) ∈ lw_all := lw_g (lw_at lw_m1 59 rfl) rfl

/-! java/util/AbstractList -/
set_option maxRecDepth 100000
def RJ1 : String := "java/util/AbstractList"
abbrev cJ1_init : ByteArray := prog_36_method_1_code
def yJ1_init : MethodName := ⟨RJ1, "<init>", "()V"⟩
def dkwJ1_init_0 : List UInt8 := [42, 183, 0, 1, 42, 3, 181, 0, 7, 177]
abbrev dktJ1_init_0 : List UInt8 := dkwJ1_init_0 ++ []
theorem dksJ1_init_0 : cJ1_init.data.toList.drop 0 = dktJ1_init_0 := by decide +kernel
theorem dJ1_init_0 : decode cJ1_init 0 = .ok (.aload_n 0, 1) := dk_42 (dk_at dksJ1_init_0 0 rfl rfl)
theorem dJ1_init_1 : decode cJ1_init 1 = .ok (.invokespecial 1, 3) := dk_183 0 1 (dk_at dksJ1_init_0 1 rfl rfl)
theorem dJ1_init_4 : decode cJ1_init 4 = .ok (.aload_n 0, 1) := dk_42 (dk_at dksJ1_init_0 4 rfl rfl)
theorem dJ1_init_5 : decode cJ1_init 5 = .ok (.iconst 0, 1) := dk_3 (dk_at dksJ1_init_0 5 rfl rfl)
theorem dJ1_init_6 : decode cJ1_init 6 = .ok (.putfield 7, 3) := dk_181 0 7 (dk_at dksJ1_init_0 6 rfl rfl)
theorem dJ1_init_9 : decode cJ1_init 9 = .ok (.return_, 1) := dk_177 (dk_at dksJ1_init_0 9 rfl rfl)
theorem q148 : (Jvm.Cond.initialized "java/util/AbstractList") ∈ lw_all := lw_g (lw_at lw_m1 4 rfl) rfl
theorem q198 : (Jvm.Cond.instanceMethod ({ cls := "java/util/AbstractList", name := "<init>", desc := "()V" } : Jvm.MethodName)) ∈ lw_all := lw_g (lw_at lw_m1 54 rfl) rfl
theorem q199 : (Jvm.Cond.code ({ cls := "java/util/AbstractList", name := "<init>", desc := "()V" } : Jvm.MethodName) prog_36_method_1_code (1 : Nat) (Option.none : Option Jvm.ClassFile.FieldType)) ∈ lw_all := lw_g (lw_at lw_m1 55 rfl) rfl
theorem q200 : (Jvm.Cond.methodLink "java/util/AbstractList" (1 : Nat) ({ cls := "java/util/AbstractCollection", name := "<init>", desc := "()V" } : Jvm.MethodName)) ∈ lw_all := lw_g (lw_at lw_m1 56 rfl) rfl
theorem q208 : (Jvm.Cond.fieldLink "java/util/AbstractList" (7 : Nat) "java/util/AbstractList" "modCount" "I") ∈ lw_all := lw_g (lw_at lw_m1 64 rfl) rfl
theorem q216 : (Jvm.Cond.soleField "java/util/AbstractList" "modCount") ∈ lw_all := lw_g (lw_at lw_m1 72 rfl) rfl

/-! jdk/internal/util/ArraysSupport -/
set_option maxRecDepth 100000
def RJ10 : String := "jdk/internal/util/ArraysSupport"
abbrev cJ10_newLength : ByteArray := prog_44_method_27_code
def yJ10_newLength : MethodName := ⟨RJ10, "newLength", "(III)I"⟩
def dkwJ10_newLength_1 : List UInt8 := [184, 0, 201, 172]
abbrev dktJ10_newLength_1 : List UInt8 := dkwJ10_newLength_1 ++ []
def dkwJ10_newLength_0 : List UInt8 := [26, 27, 28, 184, 0, 194, 96, 62, 3, 29, 162, 0, 11, 29, 18, 200, 163, 0, 5, 29, 172, 26, 27]
abbrev dktJ10_newLength_0 : List UInt8 := dkwJ10_newLength_0 ++ dktJ10_newLength_1
theorem dksJ10_newLength_0 : cJ10_newLength.data.toList.drop 0 = dktJ10_newLength_0 := by decide +kernel
theorem dksJ10_newLength_1 : cJ10_newLength.data.toList.drop 23 = dktJ10_newLength_1 := dk_seg dksJ10_newLength_0 23 rfl rfl
theorem dJ10_newLength_0 : decode cJ10_newLength 0 = .ok (.iload_n 0, 1) := dk_26 (dk_at dksJ10_newLength_0 0 rfl rfl)
theorem dJ10_newLength_1 : decode cJ10_newLength 1 = .ok (.iload_n 1, 1) := dk_27 (dk_at dksJ10_newLength_0 1 rfl rfl)
theorem dJ10_newLength_2 : decode cJ10_newLength 2 = .ok (.iload_n 2, 1) := dk_28 (dk_at dksJ10_newLength_0 2 rfl rfl)
theorem dJ10_newLength_3 : decode cJ10_newLength 3 = .ok (.invokestatic 194, 3) := dk_184 0 194 (dk_at dksJ10_newLength_0 3 rfl rfl)
theorem dJ10_newLength_6 : decode cJ10_newLength 6 = .ok (.iadd, 1) := dk_96 (dk_at dksJ10_newLength_0 6 rfl rfl)
theorem dJ10_newLength_7 : decode cJ10_newLength 7 = .ok (.istore_n 3, 1) := dk_62 (dk_at dksJ10_newLength_0 7 rfl rfl)
theorem dJ10_newLength_8 : decode cJ10_newLength 8 = .ok (.iconst 0, 1) := dk_3 (dk_at dksJ10_newLength_0 8 rfl rfl)
theorem dJ10_newLength_9 : decode cJ10_newLength 9 = .ok (.iload_n 3, 1) := dk_29 (dk_at dksJ10_newLength_0 9 rfl rfl)
theorem dJ10_newLength_10 : decode cJ10_newLength 10 = .ok (.if_icmp .ge 11, 3) := dk_162 0 11 (dk_at dksJ10_newLength_0 10 rfl rfl)
theorem dJ10_newLength_13 : decode cJ10_newLength 13 = .ok (.iload_n 3, 1) := dk_29 (dk_at dksJ10_newLength_0 13 rfl rfl)
theorem dJ10_newLength_14 : decode cJ10_newLength 14 = .ok (.ldc 200, 2) := dk_18 200 (dk_at dksJ10_newLength_0 14 rfl rfl)
theorem dJ10_newLength_16 : decode cJ10_newLength 16 = .ok (.if_icmp .gt 5, 3) := dk_163 0 5 (dk_at dksJ10_newLength_0 16 rfl rfl)
theorem dJ10_newLength_19 : decode cJ10_newLength 19 = .ok (.iload_n 3, 1) := dk_29 (dk_at dksJ10_newLength_0 19 rfl rfl)
theorem dJ10_newLength_20 : decode cJ10_newLength 20 = .ok (.ireturn, 1) := dk_172 (dk_at dksJ10_newLength_0 20 rfl rfl)
theorem dJ10_newLength_21 : decode cJ10_newLength 21 = .ok (.iload_n 0, 1) := dk_26 (dk_at dksJ10_newLength_0 21 rfl rfl)
theorem dJ10_newLength_22 : decode cJ10_newLength 22 = .ok (.iload_n 1, 1) := dk_27 (dk_at dksJ10_newLength_0 22 rfl rfl)
theorem dJ10_newLength_23 : decode cJ10_newLength 23 = .ok (.invokestatic 201, 3) := dk_184 0 201 (dk_at dksJ10_newLength_1 0 rfl rfl)
theorem dJ10_newLength_26 : decode cJ10_newLength 26 = .ok (.ireturn, 1) := dk_172 (dk_at dksJ10_newLength_1 3 rfl rfl)
abbrev cJ10_hugeLength : ByteArray := prog_44_method_28_code
def yJ10_hugeLength : MethodName := ⟨RJ10, "hugeLength", "(II)I"⟩
def dkwJ10_hugeLength_2 : List UInt8 := [191, 28, 18, 200, 163, 0, 6, 18, 200, 172, 28, 172]
abbrev dktJ10_hugeLength_2 : List UInt8 := dkwJ10_hugeLength_2 ++ []
def dkwJ10_hugeLength_1 : List UInt8 := [26, 182, 0, 98, 18, 208, 182, 0, 94, 27, 182, 0, 98, 18, 210, 182, 0, 94, 182, 0, 101, 183, 0, 212]
abbrev dktJ10_hugeLength_1 : List UInt8 := dkwJ10_hugeLength_1 ++ dktJ10_hugeLength_2
def dkwJ10_hugeLength_0 : List UInt8 := [26, 27, 96, 61, 28, 156, 0, 44, 187, 0, 204, 89, 187, 0, 89, 89, 183, 0, 91, 18, 206, 182, 0, 94]
abbrev dktJ10_hugeLength_0 : List UInt8 := dkwJ10_hugeLength_0 ++ dktJ10_hugeLength_1
theorem dksJ10_hugeLength_0 : cJ10_hugeLength.data.toList.drop 0 = dktJ10_hugeLength_0 := by decide +kernel
theorem dksJ10_hugeLength_1 : cJ10_hugeLength.data.toList.drop 24 = dktJ10_hugeLength_1 := dk_seg dksJ10_hugeLength_0 24 rfl rfl
theorem dksJ10_hugeLength_2 : cJ10_hugeLength.data.toList.drop 48 = dktJ10_hugeLength_2 := dk_seg dksJ10_hugeLength_1 24 rfl rfl
theorem dJ10_hugeLength_0 : decode cJ10_hugeLength 0 = .ok (.iload_n 0, 1) := dk_26 (dk_at dksJ10_hugeLength_0 0 rfl rfl)
theorem dJ10_hugeLength_1 : decode cJ10_hugeLength 1 = .ok (.iload_n 1, 1) := dk_27 (dk_at dksJ10_hugeLength_0 1 rfl rfl)
theorem dJ10_hugeLength_2 : decode cJ10_hugeLength 2 = .ok (.iadd, 1) := dk_96 (dk_at dksJ10_hugeLength_0 2 rfl rfl)
theorem dJ10_hugeLength_3 : decode cJ10_hugeLength 3 = .ok (.istore_n 2, 1) := dk_61 (dk_at dksJ10_hugeLength_0 3 rfl rfl)
theorem dJ10_hugeLength_4 : decode cJ10_hugeLength 4 = .ok (.iload_n 2, 1) := dk_28 (dk_at dksJ10_hugeLength_0 4 rfl rfl)
theorem dJ10_hugeLength_5 : decode cJ10_hugeLength 5 = .ok (.ifCond .ge 44, 3) := dk_156 0 44 (dk_at dksJ10_hugeLength_0 5 rfl rfl)
theorem dJ10_hugeLength_8 : decode cJ10_hugeLength 8 = .ok (.new 204, 3) := dk_187 0 204 (dk_at dksJ10_hugeLength_0 8 rfl rfl)
theorem dJ10_hugeLength_11 : decode cJ10_hugeLength 11 = .ok (.dup, 1) := dk_89 (dk_at dksJ10_hugeLength_0 11 rfl rfl)
theorem dJ10_hugeLength_12 : decode cJ10_hugeLength 12 = .ok (.new 89, 3) := dk_187 0 89 (dk_at dksJ10_hugeLength_0 12 rfl rfl)
theorem dJ10_hugeLength_15 : decode cJ10_hugeLength 15 = .ok (.dup, 1) := dk_89 (dk_at dksJ10_hugeLength_0 15 rfl rfl)
theorem dJ10_hugeLength_16 : decode cJ10_hugeLength 16 = .ok (.invokespecial 91, 3) := dk_183 0 91 (dk_at dksJ10_hugeLength_0 16 rfl rfl)
theorem dJ10_hugeLength_19 : decode cJ10_hugeLength 19 = .ok (.ldc 206, 2) := dk_18 206 (dk_at dksJ10_hugeLength_0 19 rfl rfl)
theorem dJ10_hugeLength_21 : decode cJ10_hugeLength 21 = .ok (.invokevirtual 94, 3) := dk_182 0 94 (dk_at dksJ10_hugeLength_0 21 rfl rfl)
theorem dJ10_hugeLength_24 : decode cJ10_hugeLength 24 = .ok (.iload_n 0, 1) := dk_26 (dk_at dksJ10_hugeLength_1 0 rfl rfl)
theorem dJ10_hugeLength_25 : decode cJ10_hugeLength 25 = .ok (.invokevirtual 98, 3) := dk_182 0 98 (dk_at dksJ10_hugeLength_1 1 rfl rfl)
theorem dJ10_hugeLength_28 : decode cJ10_hugeLength 28 = .ok (.ldc 208, 2) := dk_18 208 (dk_at dksJ10_hugeLength_1 4 rfl rfl)
theorem dJ10_hugeLength_30 : decode cJ10_hugeLength 30 = .ok (.invokevirtual 94, 3) := dk_182 0 94 (dk_at dksJ10_hugeLength_1 6 rfl rfl)
theorem dJ10_hugeLength_33 : decode cJ10_hugeLength 33 = .ok (.iload_n 1, 1) := dk_27 (dk_at dksJ10_hugeLength_1 9 rfl rfl)
theorem dJ10_hugeLength_34 : decode cJ10_hugeLength 34 = .ok (.invokevirtual 98, 3) := dk_182 0 98 (dk_at dksJ10_hugeLength_1 10 rfl rfl)
theorem dJ10_hugeLength_37 : decode cJ10_hugeLength 37 = .ok (.ldc 210, 2) := dk_18 210 (dk_at dksJ10_hugeLength_1 13 rfl rfl)
theorem dJ10_hugeLength_39 : decode cJ10_hugeLength 39 = .ok (.invokevirtual 94, 3) := dk_182 0 94 (dk_at dksJ10_hugeLength_1 15 rfl rfl)
theorem dJ10_hugeLength_42 : decode cJ10_hugeLength 42 = .ok (.invokevirtual 101, 3) := dk_182 0 101 (dk_at dksJ10_hugeLength_1 18 rfl rfl)
theorem dJ10_hugeLength_45 : decode cJ10_hugeLength 45 = .ok (.invokespecial 212, 3) := dk_183 0 212 (dk_at dksJ10_hugeLength_1 21 rfl rfl)
theorem dJ10_hugeLength_48 : decode cJ10_hugeLength 48 = .ok (.athrow, 1) := dk_191 (dk_at dksJ10_hugeLength_2 0 rfl rfl)
theorem dJ10_hugeLength_49 : decode cJ10_hugeLength 49 = .ok (.iload_n 2, 1) := dk_28 (dk_at dksJ10_hugeLength_2 1 rfl rfl)
theorem dJ10_hugeLength_50 : decode cJ10_hugeLength 50 = .ok (.ldc 200, 2) := dk_18 200 (dk_at dksJ10_hugeLength_2 2 rfl rfl)
theorem dJ10_hugeLength_52 : decode cJ10_hugeLength 52 = .ok (.if_icmp .gt 6, 3) := dk_163 0 6 (dk_at dksJ10_hugeLength_2 4 rfl rfl)
theorem dJ10_hugeLength_55 : decode cJ10_hugeLength 55 = .ok (.ldc 200, 2) := dk_18 200 (dk_at dksJ10_hugeLength_2 7 rfl rfl)
theorem dJ10_hugeLength_57 : decode cJ10_hugeLength 57 = .ok (.ireturn, 1) := dk_172 (dk_at dksJ10_hugeLength_2 9 rfl rfl)
theorem dJ10_hugeLength_58 : decode cJ10_hugeLength 58 = .ok (.iload_n 2, 1) := dk_28 (dk_at dksJ10_hugeLength_2 10 rfl rfl)
theorem dJ10_hugeLength_59 : decode cJ10_hugeLength 59 = .ok (.ireturn, 1) := dk_172 (dk_at dksJ10_hugeLength_2 11 rfl rfl)
theorem q168 : (Jvm.Cond.initialized "jdk/internal/util/ArraysSupport") ∈ lw_all := lw_g (lw_at lw_m1 24 rfl) rfl
theorem q763 : (Jvm.Cond.static ({ cls := "jdk/internal/util/ArraysSupport", name := "newLength", desc := "(III)I" } : Jvm.MethodName)) ∈ lw_all := lw_g (lw_at lw_m3 139 rfl) rfl
theorem q764 : (Jvm.Cond.code ({ cls := "jdk/internal/util/ArraysSupport", name := "newLength", desc := "(III)I" } : Jvm.MethodName) prog_44_method_27_code (4 : Nat) (Option.some Jvm.ClassFile.FieldType.int)) ∈ lw_all := lw_g (lw_at lw_m3 140 rfl) rfl
theorem q765 : (Jvm.Cond.methodLink "jdk/internal/util/ArraysSupport" (194 : Nat) ({ cls := "java/lang/Math", name := "max", desc := "(II)I" } : Jvm.MethodName)) ∈ lw_all := lw_g (lw_at lw_m3 141 rfl) rfl
theorem q768 : (Jvm.Cond.constant "jdk/internal/util/ArraysSupport" (200 : Nat) (2147483639 : Int32)) ∈ lw_all := lw_g (lw_at lw_m3 144 rfl) rfl
theorem q769 : (Jvm.Cond.methodLink "jdk/internal/util/ArraysSupport" (201 : Nat) ({ cls := "jdk/internal/util/ArraysSupport", name := "hugeLength", desc := "(II)I" } : Jvm.MethodName)) ∈ lw_all := lw_g (lw_at lw_m3 145 rfl) rfl
theorem q770 : (Jvm.Cond.static ({ cls := "jdk/internal/util/ArraysSupport", name := "hugeLength", desc := "(II)I" } : Jvm.MethodName)) ∈ lw_all := lw_g (lw_at lw_m3 146 rfl) rfl
theorem q771 : (Jvm.Cond.code ({ cls := "jdk/internal/util/ArraysSupport", name := "hugeLength", desc := "(II)I" } : Jvm.MethodName) prog_44_method_28_code (3 : Nat) (Option.some Jvm.ClassFile.FieldType.int)) ∈ lw_all := lw_g (lw_at lw_m3 147 rfl) rfl

/-! java/lang/Math -/
set_option maxRecDepth 100000
def RJ11 : String := "java/lang/Math"
abbrev cJ11_max : ByteArray := prog_29_method_65_code
def yJ11_max : MethodName := ⟨RJ11, "max", "(II)I"⟩
def dkwJ11_max_0 : List UInt8 := [26, 27, 161, 0, 7, 26, 167, 0, 4, 27, 172]
abbrev dktJ11_max_0 : List UInt8 := dkwJ11_max_0 ++ []
theorem dksJ11_max_0 : cJ11_max.data.toList.drop 0 = dktJ11_max_0 := by decide +kernel
theorem dJ11_max_0 : decode cJ11_max 0 = .ok (.iload_n 0, 1) := dk_26 (dk_at dksJ11_max_0 0 rfl rfl)
theorem dJ11_max_1 : decode cJ11_max 1 = .ok (.iload_n 1, 1) := dk_27 (dk_at dksJ11_max_0 1 rfl rfl)
theorem dJ11_max_2 : decode cJ11_max 2 = .ok (.if_icmp .lt 7, 3) := dk_161 0 7 (dk_at dksJ11_max_0 2 rfl rfl)
theorem dJ11_max_5 : decode cJ11_max 5 = .ok (.iload_n 0, 1) := dk_26 (dk_at dksJ11_max_0 5 rfl rfl)
theorem dJ11_max_6 : decode cJ11_max 6 = .ok (.goto 4, 3) := dk_167 0 4 (dk_at dksJ11_max_0 6 rfl rfl)
theorem dJ11_max_9 : decode cJ11_max 9 = .ok (.iload_n 1, 1) := dk_27 (dk_at dksJ11_max_0 9 rfl rfl)
theorem dJ11_max_10 : decode cJ11_max 10 = .ok (.ireturn, 1) := dk_172 (dk_at dksJ11_max_0 10 rfl rfl)
abbrev cJ11_min : ByteArray := prog_29_method_69_code
def yJ11_min : MethodName := ⟨RJ11, "min", "(II)I"⟩
def dkwJ11_min_0 : List UInt8 := [26, 27, 163, 0, 7, 26, 167, 0, 4, 27, 172]
abbrev dktJ11_min_0 : List UInt8 := dkwJ11_min_0 ++ []
theorem dksJ11_min_0 : cJ11_min.data.toList.drop 0 = dktJ11_min_0 := by decide +kernel
theorem dJ11_min_0 : decode cJ11_min 0 = .ok (.iload_n 0, 1) := dk_26 (dk_at dksJ11_min_0 0 rfl rfl)
theorem dJ11_min_1 : decode cJ11_min 1 = .ok (.iload_n 1, 1) := dk_27 (dk_at dksJ11_min_0 1 rfl rfl)
theorem dJ11_min_2 : decode cJ11_min 2 = .ok (.if_icmp .gt 7, 3) := dk_163 0 7 (dk_at dksJ11_min_0 2 rfl rfl)
theorem dJ11_min_5 : decode cJ11_min 5 = .ok (.iload_n 0, 1) := dk_26 (dk_at dksJ11_min_0 5 rfl rfl)
theorem dJ11_min_6 : decode cJ11_min 6 = .ok (.goto 4, 3) := dk_167 0 4 (dk_at dksJ11_min_0 6 rfl rfl)
theorem dJ11_min_9 : decode cJ11_min 9 = .ok (.iload_n 1, 1) := dk_27 (dk_at dksJ11_min_0 9 rfl rfl)
theorem dJ11_min_10 : decode cJ11_min 10 = .ok (.ireturn, 1) := dk_172 (dk_at dksJ11_min_0 10 rfl rfl)
abbrev cJ11_abs : ByteArray := prog_29_method_59_code
def yJ11_abs : MethodName := ⟨RJ11, "abs", "(I)I"⟩
def dkwJ11_abs_0 : List UInt8 := [26, 156, 0, 8, 26, 116, 167, 0, 4, 26, 172]
abbrev dktJ11_abs_0 : List UInt8 := dkwJ11_abs_0 ++ []
theorem dksJ11_abs_0 : cJ11_abs.data.toList.drop 0 = dktJ11_abs_0 := by decide +kernel
theorem dJ11_abs_0 : decode cJ11_abs 0 = .ok (.iload_n 0, 1) := dk_26 (dk_at dksJ11_abs_0 0 rfl rfl)
theorem dJ11_abs_1 : decode cJ11_abs 1 = .ok (.ifCond .ge 8, 3) := dk_156 0 8 (dk_at dksJ11_abs_0 1 rfl rfl)
theorem dJ11_abs_4 : decode cJ11_abs 4 = .ok (.iload_n 0, 1) := dk_26 (dk_at dksJ11_abs_0 4 rfl rfl)
theorem dJ11_abs_5 : decode cJ11_abs 5 = .ok (.ineg, 1) := dk_116 (dk_at dksJ11_abs_0 5 rfl rfl)
theorem dJ11_abs_6 : decode cJ11_abs 6 = .ok (.goto 4, 3) := dk_167 0 4 (dk_at dksJ11_abs_0 6 rfl rfl)
theorem dJ11_abs_9 : decode cJ11_abs 9 = .ok (.iload_n 0, 1) := dk_26 (dk_at dksJ11_abs_0 9 rfl rfl)
theorem dJ11_abs_10 : decode cJ11_abs 10 = .ok (.ireturn, 1) := dk_172 (dk_at dksJ11_abs_0 10 rfl rfl)
theorem q169 : (Jvm.Cond.initialized "java/lang/Math") ∈ lw_all := lw_g (lw_at lw_m1 25 rfl) rfl
theorem q766 : (Jvm.Cond.static ({ cls := "java/lang/Math", name := "max", desc := "(II)I" } : Jvm.MethodName)) ∈ lw_all := lw_g (lw_at lw_m3 142 rfl) rfl
theorem q767 : (Jvm.Cond.code ({ cls := "java/lang/Math", name := "max", desc := "(II)I" } : Jvm.MethodName) prog_29_method_65_code (2 : Nat) (Option.some Jvm.ClassFile.FieldType.int)) ∈ lw_all := lw_g (lw_at lw_m3 143 rfl) rfl
theorem q807 : (Jvm.Cond.static ({ cls := "java/lang/Math", name := "min", desc := "(II)I" } : Jvm.MethodName)) ∈ lw_all := lw_g (lw_at lw_m3 183 rfl) rfl
theorem q808 : (Jvm.Cond.code ({ cls := "java/lang/Math", name := "min", desc := "(II)I" } : Jvm.MethodName) prog_29_method_69_code (2 : Nat) (Option.some Jvm.ClassFile.FieldType.int)) ∈ lw_all := lw_g (lw_at lw_m3 184 rfl) rfl
theorem q1038 : (Jvm.Cond.static ({ cls := "java/lang/Math", name := "abs", desc := "(I)I" } : Jvm.MethodName)) ∈ lw_all := lw_g (lw_at lw_m4 174 rfl) rfl
theorem q1039 : (Jvm.Cond.code ({ cls := "java/lang/Math", name := "abs", desc := "(I)I" } : Jvm.MethodName) prog_29_method_59_code (1 : Nat) (Option.some Jvm.ClassFile.FieldType.int)) ∈ lw_all := lw_g (lw_at lw_m4 175 rfl) rfl

/-! java/util/Arrays -/
set_option maxRecDepth 100000
def RJ12 : String := "java/util/Arrays"
abbrev cJ12_copyOf : ByteArray := prog_38_method_119_code
def yJ12_copyOf : MethodName := ⟨RJ12, "copyOf", "([Ljava/lang/Object;I)[Ljava/lang/Object;"⟩
def dkwJ12_copyOf_0 : List UInt8 := [42, 27, 42, 182, 0, 86, 184, 1, 44, 176]
abbrev dktJ12_copyOf_0 : List UInt8 := dkwJ12_copyOf_0 ++ []
theorem dksJ12_copyOf_0 : cJ12_copyOf.data.toList.drop 0 = dktJ12_copyOf_0 := by decide +kernel
theorem dJ12_copyOf_0 : decode cJ12_copyOf 0 = .ok (.aload_n 0, 1) := dk_42 (dk_at dksJ12_copyOf_0 0 rfl rfl)
theorem dJ12_copyOf_1 : decode cJ12_copyOf 1 = .ok (.iload_n 1, 1) := dk_27 (dk_at dksJ12_copyOf_0 1 rfl rfl)
theorem dJ12_copyOf_2 : decode cJ12_copyOf 2 = .ok (.aload_n 0, 1) := dk_42 (dk_at dksJ12_copyOf_0 2 rfl rfl)
theorem dJ12_copyOf_3 : decode cJ12_copyOf 3 = .ok (.invokevirtual 86, 3) := dk_182 0 86 (dk_at dksJ12_copyOf_0 3 rfl rfl)
theorem dJ12_copyOf_6 : decode cJ12_copyOf 6 = .ok (.invokestatic 300, 3) := dk_184 1 44 (dk_at dksJ12_copyOf_0 6 rfl rfl)
theorem dJ12_copyOf_9 : decode cJ12_copyOf 9 = .ok (.areturn, 1) := dk_176 (dk_at dksJ12_copyOf_0 9 rfl rfl)
abbrev cJ12_copyOf_2 : ByteArray := prog_38_method_120_code
def yJ12_copyOf_2 : MethodName := ⟨RJ12, "copyOf", "([Ljava/lang/Object;ILjava/lang/Class;)[Ljava/lang/Object;"⟩
def dkwJ12_copyOf_2_1 : List UInt8 := [78, 42, 3, 45, 3, 42, 190, 27, 184, 1, 48, 184, 0, 150, 45, 176]
abbrev dktJ12_copyOf_2_1 : List UInt8 := dkwJ12_copyOf_2_1 ++ []
def dkwJ12_copyOf_2_0 : List UInt8 := [44, 18, 110, 166, 0, 10, 27, 189, 0, 2, 167, 0, 14, 44, 182, 0, 90, 27, 184, 0, 95, 192, 0, 110]
abbrev dktJ12_copyOf_2_0 : List UInt8 := dkwJ12_copyOf_2_0 ++ dktJ12_copyOf_2_1
theorem dksJ12_copyOf_2_0 : cJ12_copyOf_2.data.toList.drop 0 = dktJ12_copyOf_2_0 := by decide +kernel
theorem dksJ12_copyOf_2_1 : cJ12_copyOf_2.data.toList.drop 24 = dktJ12_copyOf_2_1 := dk_seg dksJ12_copyOf_2_0 24 rfl rfl
theorem dJ12_copyOf_2_0 : decode cJ12_copyOf_2 0 = .ok (.aload_n 2, 1) := dk_44 (dk_at dksJ12_copyOf_2_0 0 rfl rfl)
theorem dJ12_copyOf_2_1 : decode cJ12_copyOf_2 1 = .ok (.ldc 110, 2) := dk_18 110 (dk_at dksJ12_copyOf_2_0 1 rfl rfl)
theorem dJ12_copyOf_2_3 : decode cJ12_copyOf_2 3 = .ok (.if_acmp .ne 10, 3) := dk_166 0 10 (dk_at dksJ12_copyOf_2_0 3 rfl rfl)
theorem dJ12_copyOf_2_6 : decode cJ12_copyOf_2 6 = .ok (.iload_n 1, 1) := dk_27 (dk_at dksJ12_copyOf_2_0 6 rfl rfl)
theorem dJ12_copyOf_2_7 : decode cJ12_copyOf_2 7 = .ok (.anewarray 2, 3) := dk_189 0 2 (dk_at dksJ12_copyOf_2_0 7 rfl rfl)
theorem dJ12_copyOf_2_10 : decode cJ12_copyOf_2 10 = .ok (.goto 14, 3) := dk_167 0 14 (dk_at dksJ12_copyOf_2_0 10 rfl rfl)
theorem dJ12_copyOf_2_13 : decode cJ12_copyOf_2 13 = .ok (.aload_n 2, 1) := dk_44 (dk_at dksJ12_copyOf_2_0 13 rfl rfl)
theorem dJ12_copyOf_2_14 : decode cJ12_copyOf_2 14 = .ok (.invokevirtual 90, 3) := dk_182 0 90 (dk_at dksJ12_copyOf_2_0 14 rfl rfl)
theorem dJ12_copyOf_2_17 : decode cJ12_copyOf_2 17 = .ok (.iload_n 1, 1) := dk_27 (dk_at dksJ12_copyOf_2_0 17 rfl rfl)
theorem dJ12_copyOf_2_18 : decode cJ12_copyOf_2 18 = .ok (.invokestatic 95, 3) := dk_184 0 95 (dk_at dksJ12_copyOf_2_0 18 rfl rfl)
theorem dJ12_copyOf_2_21 : decode cJ12_copyOf_2 21 = .ok (.checkcast 110, 3) := dk_192 0 110 (dk_at dksJ12_copyOf_2_0 21 rfl rfl)
theorem dJ12_copyOf_2_24 : decode cJ12_copyOf_2 24 = .ok (.astore_n 3, 1) := dk_78 (dk_at dksJ12_copyOf_2_1 0 rfl rfl)
theorem dJ12_copyOf_2_25 : decode cJ12_copyOf_2 25 = .ok (.aload_n 0, 1) := dk_42 (dk_at dksJ12_copyOf_2_1 1 rfl rfl)
theorem dJ12_copyOf_2_26 : decode cJ12_copyOf_2 26 = .ok (.iconst 0, 1) := dk_3 (dk_at dksJ12_copyOf_2_1 2 rfl rfl)
theorem dJ12_copyOf_2_27 : decode cJ12_copyOf_2 27 = .ok (.aload_n 3, 1) := dk_45 (dk_at dksJ12_copyOf_2_1 3 rfl rfl)
theorem dJ12_copyOf_2_28 : decode cJ12_copyOf_2 28 = .ok (.iconst 0, 1) := dk_3 (dk_at dksJ12_copyOf_2_1 4 rfl rfl)
theorem dJ12_copyOf_2_29 : decode cJ12_copyOf_2 29 = .ok (.aload_n 0, 1) := dk_42 (dk_at dksJ12_copyOf_2_1 5 rfl rfl)
theorem dJ12_copyOf_2_30 : decode cJ12_copyOf_2 30 = .ok (.arraylength, 1) := dk_190 (dk_at dksJ12_copyOf_2_1 6 rfl rfl)
theorem dJ12_copyOf_2_31 : decode cJ12_copyOf_2 31 = .ok (.iload_n 1, 1) := dk_27 (dk_at dksJ12_copyOf_2_1 7 rfl rfl)
theorem dJ12_copyOf_2_32 : decode cJ12_copyOf_2 32 = .ok (.invokestatic 304, 3) := dk_184 1 48 (dk_at dksJ12_copyOf_2_1 8 rfl rfl)
theorem dJ12_copyOf_2_35 : decode cJ12_copyOf_2 35 = .ok (.invokestatic 150, 3) := dk_184 0 150 (dk_at dksJ12_copyOf_2_1 11 rfl rfl)
theorem dJ12_copyOf_2_38 : decode cJ12_copyOf_2 38 = .ok (.aload_n 3, 1) := dk_45 (dk_at dksJ12_copyOf_2_1 14 rfl rfl)
theorem dJ12_copyOf_2_39 : decode cJ12_copyOf_2 39 = .ok (.areturn, 1) := dk_176 (dk_at dksJ12_copyOf_2_1 15 rfl rfl)
theorem q170 : (Jvm.Cond.initialized "java/util/Arrays") ∈ lw_all := lw_g (lw_at lw_m1 26 rfl) rfl
theorem q773 : (Jvm.Cond.static ({ cls := "java/util/Arrays", name := "copyOf", desc := "([Ljava/lang/Object;I)[Ljava/lang/Object;" } : Jvm.MethodName)) ∈ lw_all := lw_g (lw_at lw_m3 149 rfl) rfl
theorem q774 : (Jvm.Cond.code ({ cls := "java/util/Arrays", name := "copyOf", desc := "([Ljava/lang/Object;I)[Ljava/lang/Object;" } : Jvm.MethodName) prog_38_method_119_code (2 : Nat) (Option.some (Jvm.ClassFile.FieldType.array (Jvm.ClassFile.FieldType.object "java/lang/Object")))) ∈ lw_all := lw_g (lw_at lw_m3 150 rfl) rfl
theorem q775 : (Jvm.Cond.methodLink "java/util/Arrays" (86 : Nat) ({ cls := "java/lang/Object", name := "getClass", desc := "()Ljava/lang/Class;" } : Jvm.MethodName)) ∈ lw_all := lw_g (lw_at lw_m3 151 rfl) rfl
theorem q800 : (Jvm.Cond.methodLink "java/util/Arrays" (300 : Nat) ({ cls := "java/util/Arrays", name := "copyOf", desc := "([Ljava/lang/Object;ILjava/lang/Class;)[Ljava/lang/Object;" } : Jvm.MethodName)) ∈ lw_all := lw_g (lw_at lw_m3 176 rfl) rfl
theorem q801 : (Jvm.Cond.static ({ cls := "java/util/Arrays", name := "copyOf", desc := "([Ljava/lang/Object;ILjava/lang/Class;)[Ljava/lang/Object;" } : Jvm.MethodName)) ∈ lw_all := lw_g (lw_at lw_m3 177 rfl) rfl
theorem q802 : (Jvm.Cond.code ({ cls := "java/util/Arrays", name := "copyOf", desc := "([Ljava/lang/Object;ILjava/lang/Class;)[Ljava/lang/Object;" } : Jvm.MethodName) prog_38_method_120_code (4 : Nat) (Option.some (Jvm.ClassFile.FieldType.array (Jvm.ClassFile.FieldType.object "java/lang/Object")))) ∈ lw_all := lw_g (lw_at lw_m3 178 rfl) rfl
theorem q803 : (Jvm.Cond.classLink "java/util/Arrays" (110 : Nat) "[Ljava/lang/Object;") ∈ lw_all := lw_g (lw_at lw_m3 179 rfl) rfl
theorem q805 : (Jvm.Cond.classLink "java/util/Arrays" (2 : Nat) "java/lang/Object") ∈ lw_all := lw_g (lw_at lw_m3 181 rfl) rfl
theorem q806 : (Jvm.Cond.methodLink "java/util/Arrays" (304 : Nat) ({ cls := "java/lang/Math", name := "min", desc := "(II)I" } : Jvm.MethodName)) ∈ lw_all := lw_g (lw_at lw_m3 182 rfl) rfl
theorem q809 : (Jvm.Cond.methodLink "java/util/Arrays" (150 : Nat) ({ cls := "java/lang/System", name := "arraycopy", desc := "(Ljava/lang/Object;ILjava/lang/Object;II)V" } : Jvm.MethodName)) ∈ lw_all := lw_g (lw_at lw_m3 185 rfl) rfl

/-! java/lang/Integer -/
set_option maxRecDepth 100000
def RJ13 : String := "java/lang/Integer"
abbrev cJ13_signum : ByteArray := prog_27_method_56_code
def yJ13_signum : MethodName := ⟨RJ13, "signum", "(I)I"⟩
def dkwJ13_signum_0 : List UInt8 := [26, 16, 31, 122, 26, 116, 16, 31, 124, 128, 172]
abbrev dktJ13_signum_0 : List UInt8 := dkwJ13_signum_0 ++ []
theorem dksJ13_signum_0 : cJ13_signum.data.toList.drop 0 = dktJ13_signum_0 := by decide +kernel
theorem dJ13_signum_0 : decode cJ13_signum 0 = .ok (.iload_n 0, 1) := dk_26 (dk_at dksJ13_signum_0 0 rfl rfl)
theorem dJ13_signum_1 : decode cJ13_signum 1 = .ok (.bipush 31, 2) := dk_16 31 (dk_at dksJ13_signum_0 1 rfl rfl)
theorem dJ13_signum_3 : decode cJ13_signum 3 = .ok (.ishr, 1) := dk_122 (dk_at dksJ13_signum_0 3 rfl rfl)
theorem dJ13_signum_4 : decode cJ13_signum 4 = .ok (.iload_n 0, 1) := dk_26 (dk_at dksJ13_signum_0 4 rfl rfl)
theorem dJ13_signum_5 : decode cJ13_signum 5 = .ok (.ineg, 1) := dk_116 (dk_at dksJ13_signum_0 5 rfl rfl)
theorem dJ13_signum_6 : decode cJ13_signum 6 = .ok (.bipush 31, 2) := dk_16 31 (dk_at dksJ13_signum_0 6 rfl rfl)
theorem dJ13_signum_8 : decode cJ13_signum 8 = .ok (.iushr, 1) := dk_124 (dk_at dksJ13_signum_0 8 rfl rfl)
theorem dJ13_signum_9 : decode cJ13_signum 9 = .ok (.ior, 1) := dk_128 (dk_at dksJ13_signum_0 9 rfl rfl)
theorem dJ13_signum_10 : decode cJ13_signum 10 = .ok (.ireturn, 1) := dk_172 (dk_at dksJ13_signum_0 10 rfl rfl)
abbrev cJ13_bitCount : ByteArray := prog_27_method_49_code
def yJ13_bitCount : MethodName := ⟨RJ13, "bitCount", "(I)I"⟩
def dkwJ13_bitCount_2 : List UInt8 := [26, 16, 63, 126, 172]
abbrev dktJ13_bitCount_2 : List UInt8 := dkwJ13_bitCount_2 ++ []
def dkwJ13_bitCount_1 : List UInt8 := [26, 26, 7, 124, 96, 19, 1, 11, 126, 59, 26, 26, 16, 8, 124, 96, 59, 26, 26, 16, 16, 124, 96, 59]
abbrev dktJ13_bitCount_1 : List UInt8 := dkwJ13_bitCount_1 ++ dktJ13_bitCount_2
def dkwJ13_bitCount_0 : List UInt8 := [26, 26, 4, 124, 19, 1, 9, 126, 100, 59, 26, 19, 1, 10, 126, 26, 5, 124, 19, 1, 10, 126, 96, 59]
abbrev dktJ13_bitCount_0 : List UInt8 := dkwJ13_bitCount_0 ++ dktJ13_bitCount_1
theorem dksJ13_bitCount_0 : cJ13_bitCount.data.toList.drop 0 = dktJ13_bitCount_0 := by decide +kernel
theorem dksJ13_bitCount_1 : cJ13_bitCount.data.toList.drop 24 = dktJ13_bitCount_1 := dk_seg dksJ13_bitCount_0 24 rfl rfl
theorem dksJ13_bitCount_2 : cJ13_bitCount.data.toList.drop 48 = dktJ13_bitCount_2 := dk_seg dksJ13_bitCount_1 24 rfl rfl
theorem dJ13_bitCount_0 : decode cJ13_bitCount 0 = .ok (.iload_n 0, 1) := dk_26 (dk_at dksJ13_bitCount_0 0 rfl rfl)
theorem dJ13_bitCount_1 : decode cJ13_bitCount 1 = .ok (.iload_n 0, 1) := dk_26 (dk_at dksJ13_bitCount_0 1 rfl rfl)
theorem dJ13_bitCount_2 : decode cJ13_bitCount 2 = .ok (.iconst 1, 1) := dk_4 (dk_at dksJ13_bitCount_0 2 rfl rfl)
theorem dJ13_bitCount_3 : decode cJ13_bitCount 3 = .ok (.iushr, 1) := dk_124 (dk_at dksJ13_bitCount_0 3 rfl rfl)
theorem dJ13_bitCount_4 : decode cJ13_bitCount 4 = .ok (.ldc_w 265, 3) := dk_19 1 9 (dk_at dksJ13_bitCount_0 4 rfl rfl)
theorem dJ13_bitCount_7 : decode cJ13_bitCount 7 = .ok (.iand, 1) := dk_126 (dk_at dksJ13_bitCount_0 7 rfl rfl)
theorem dJ13_bitCount_8 : decode cJ13_bitCount 8 = .ok (.isub, 1) := dk_100 (dk_at dksJ13_bitCount_0 8 rfl rfl)
theorem dJ13_bitCount_9 : decode cJ13_bitCount 9 = .ok (.istore_n 0, 1) := dk_59 (dk_at dksJ13_bitCount_0 9 rfl rfl)
theorem dJ13_bitCount_10 : decode cJ13_bitCount 10 = .ok (.iload_n 0, 1) := dk_26 (dk_at dksJ13_bitCount_0 10 rfl rfl)
theorem dJ13_bitCount_11 : decode cJ13_bitCount 11 = .ok (.ldc_w 266, 3) := dk_19 1 10 (dk_at dksJ13_bitCount_0 11 rfl rfl)
theorem dJ13_bitCount_14 : decode cJ13_bitCount 14 = .ok (.iand, 1) := dk_126 (dk_at dksJ13_bitCount_0 14 rfl rfl)
theorem dJ13_bitCount_15 : decode cJ13_bitCount 15 = .ok (.iload_n 0, 1) := dk_26 (dk_at dksJ13_bitCount_0 15 rfl rfl)
theorem dJ13_bitCount_16 : decode cJ13_bitCount 16 = .ok (.iconst 2, 1) := dk_5 (dk_at dksJ13_bitCount_0 16 rfl rfl)
theorem dJ13_bitCount_17 : decode cJ13_bitCount 17 = .ok (.iushr, 1) := dk_124 (dk_at dksJ13_bitCount_0 17 rfl rfl)
theorem dJ13_bitCount_18 : decode cJ13_bitCount 18 = .ok (.ldc_w 266, 3) := dk_19 1 10 (dk_at dksJ13_bitCount_0 18 rfl rfl)
theorem dJ13_bitCount_21 : decode cJ13_bitCount 21 = .ok (.iand, 1) := dk_126 (dk_at dksJ13_bitCount_0 21 rfl rfl)
theorem dJ13_bitCount_22 : decode cJ13_bitCount 22 = .ok (.iadd, 1) := dk_96 (dk_at dksJ13_bitCount_0 22 rfl rfl)
theorem dJ13_bitCount_23 : decode cJ13_bitCount 23 = .ok (.istore_n 0, 1) := dk_59 (dk_at dksJ13_bitCount_0 23 rfl rfl)
theorem dJ13_bitCount_24 : decode cJ13_bitCount 24 = .ok (.iload_n 0, 1) := dk_26 (dk_at dksJ13_bitCount_1 0 rfl rfl)
theorem dJ13_bitCount_25 : decode cJ13_bitCount 25 = .ok (.iload_n 0, 1) := dk_26 (dk_at dksJ13_bitCount_1 1 rfl rfl)
theorem dJ13_bitCount_26 : decode cJ13_bitCount 26 = .ok (.iconst 4, 1) := dk_7 (dk_at dksJ13_bitCount_1 2 rfl rfl)
theorem dJ13_bitCount_27 : decode cJ13_bitCount 27 = .ok (.iushr, 1) := dk_124 (dk_at dksJ13_bitCount_1 3 rfl rfl)
theorem dJ13_bitCount_28 : decode cJ13_bitCount 28 = .ok (.iadd, 1) := dk_96 (dk_at dksJ13_bitCount_1 4 rfl rfl)
theorem dJ13_bitCount_29 : decode cJ13_bitCount 29 = .ok (.ldc_w 267, 3) := dk_19 1 11 (dk_at dksJ13_bitCount_1 5 rfl rfl)
theorem dJ13_bitCount_32 : decode cJ13_bitCount 32 = .ok (.iand, 1) := dk_126 (dk_at dksJ13_bitCount_1 8 rfl rfl)
theorem dJ13_bitCount_33 : decode cJ13_bitCount 33 = .ok (.istore_n 0, 1) := dk_59 (dk_at dksJ13_bitCount_1 9 rfl rfl)
theorem dJ13_bitCount_34 : decode cJ13_bitCount 34 = .ok (.iload_n 0, 1) := dk_26 (dk_at dksJ13_bitCount_1 10 rfl rfl)
theorem dJ13_bitCount_35 : decode cJ13_bitCount 35 = .ok (.iload_n 0, 1) := dk_26 (dk_at dksJ13_bitCount_1 11 rfl rfl)
theorem dJ13_bitCount_36 : decode cJ13_bitCount 36 = .ok (.bipush 8, 2) := dk_16 8 (dk_at dksJ13_bitCount_1 12 rfl rfl)
theorem dJ13_bitCount_38 : decode cJ13_bitCount 38 = .ok (.iushr, 1) := dk_124 (dk_at dksJ13_bitCount_1 14 rfl rfl)
theorem dJ13_bitCount_39 : decode cJ13_bitCount 39 = .ok (.iadd, 1) := dk_96 (dk_at dksJ13_bitCount_1 15 rfl rfl)
theorem dJ13_bitCount_40 : decode cJ13_bitCount 40 = .ok (.istore_n 0, 1) := dk_59 (dk_at dksJ13_bitCount_1 16 rfl rfl)
theorem dJ13_bitCount_41 : decode cJ13_bitCount 41 = .ok (.iload_n 0, 1) := dk_26 (dk_at dksJ13_bitCount_1 17 rfl rfl)
theorem dJ13_bitCount_42 : decode cJ13_bitCount 42 = .ok (.iload_n 0, 1) := dk_26 (dk_at dksJ13_bitCount_1 18 rfl rfl)
theorem dJ13_bitCount_43 : decode cJ13_bitCount 43 = .ok (.bipush 16, 2) := dk_16 16 (dk_at dksJ13_bitCount_1 19 rfl rfl)
theorem dJ13_bitCount_45 : decode cJ13_bitCount 45 = .ok (.iushr, 1) := dk_124 (dk_at dksJ13_bitCount_1 21 rfl rfl)
theorem dJ13_bitCount_46 : decode cJ13_bitCount 46 = .ok (.iadd, 1) := dk_96 (dk_at dksJ13_bitCount_1 22 rfl rfl)
theorem dJ13_bitCount_47 : decode cJ13_bitCount 47 = .ok (.istore_n 0, 1) := dk_59 (dk_at dksJ13_bitCount_1 23 rfl rfl)
theorem dJ13_bitCount_48 : decode cJ13_bitCount 48 = .ok (.iload_n 0, 1) := dk_26 (dk_at dksJ13_bitCount_2 0 rfl rfl)
theorem dJ13_bitCount_49 : decode cJ13_bitCount 49 = .ok (.bipush 63, 2) := dk_16 63 (dk_at dksJ13_bitCount_2 1 rfl rfl)
theorem dJ13_bitCount_51 : decode cJ13_bitCount 51 = .ok (.iand, 1) := dk_126 (dk_at dksJ13_bitCount_2 3 rfl rfl)
theorem dJ13_bitCount_52 : decode cJ13_bitCount 52 = .ok (.ireturn, 1) := dk_172 (dk_at dksJ13_bitCount_2 4 rfl rfl)
theorem q174 : (Jvm.Cond.initialized "java/lang/Integer") ∈ lw_all := lw_g (lw_at lw_m1 30 rfl) rfl
theorem q1078 : (Jvm.Cond.static ({ cls := "java/lang/Integer", name := "signum", desc := "(I)I" } : Jvm.MethodName)) ∈ lw_all := lw_g (lw_at lw_m4 214 rfl) rfl
theorem q1079 : (Jvm.Cond.code ({ cls := "java/lang/Integer", name := "signum", desc := "(I)I" } : Jvm.MethodName) prog_27_method_56_code (1 : Nat) (Option.some Jvm.ClassFile.FieldType.int)) ∈ lw_all := lw_g (lw_at lw_m4 215 rfl) rfl
theorem q1397 : (Jvm.Cond.static ({ cls := "java/lang/Integer", name := "bitCount", desc := "(I)I" } : Jvm.MethodName)) ∈ lw_all := lw_g (lw_at lw_m6 53 rfl) rfl
theorem q1398 : (Jvm.Cond.code ({ cls := "java/lang/Integer", name := "bitCount", desc := "(I)I" } : Jvm.MethodName) prog_27_method_49_code (1 : Nat) (Option.some Jvm.ClassFile.FieldType.int)) ∈ lw_all := lw_g (lw_at lw_m6 54 rfl) rfl
theorem q1399 : (Jvm.Cond.constant "java/lang/Integer" (265 : Nat) (1431655765 : Int32)) ∈ lw_all := lw_g (lw_at lw_m6 55 rfl) rfl
theorem q1400 : (Jvm.Cond.constant "java/lang/Integer" (266 : Nat) (858993459 : Int32)) ∈ lw_all := lw_g (lw_at lw_m6 56 rfl) rfl
theorem q1401 : (Jvm.Cond.constant "java/lang/Integer" (267 : Nat) (252645135 : Int32)) ∈ lw_all := lw_g (lw_at lw_m6 57 rfl) rfl

/-! java/lang/Object -/
set_option maxRecDepth 100000
def RJ14 : String := "java/lang/Object"
abbrev cJ14_init : ByteArray := object_method_1_code
def yJ14_init : MethodName := ⟨RJ14, "<init>", "()V"⟩
theorem dJ14_init_0 : decode cJ14_init 0 = .ok (.return_, 1) := by decide +kernel
theorem q182 : (Jvm.Cond.instanceMethod ({ cls := "java/lang/Object", name := "<init>", desc := "()V" } : Jvm.MethodName)) ∈ lw_all := lw_g (lw_at lw_m1 38 rfl) rfl
theorem q183 : (Jvm.Cond.code ({ cls := "java/lang/Object", name := "<init>", desc := "()V" } : Jvm.MethodName) object_method_1_code (1 : Nat) (Option.none : Option Jvm.ClassFile.FieldType)) ∈ lw_all := lw_g (lw_at lw_m1 39 rfl) rfl
theorem q776 : (Jvm.Cond.instanceMethod ({ cls := "java/lang/Object", name := "getClass", desc := "()Ljava/lang/Class;" } : Jvm.MethodName)) ∈ lw_all := lw_g (lw_at lw_m3 152 rfl) rfl
theorem q777 : (Jvm.Cond.sameMethod "java/lang/Object" "java/lang/Object" "getClass" "()Ljava/lang/Class;") ∈ lw_all := lw_g (lw_at lw_m3 153 rfl) rfl
theorem q799 : (Jvm.Cond.native ({ cls := "java/lang/Object", name := "getClass", desc := "()Ljava/lang/Class;" } : Jvm.MethodName)) ∈ lw_all := lw_g (lw_at lw_m3 175 rfl) rfl
theorem q2356 : (Jvm.Cond.initialized "java/lang/Object") ∈ lw_all := lw_g (lw_at lw_m10 52 rfl) rfl
theorem q2394 : (Jvm.Cond.declares ({ cls := "java/lang/Object", name := "getClass", desc := "()Ljava/lang/Class;" } : Jvm.MethodName)) ∈ lw_tbl := lw_at lw_m10 90 rfl

/-! java/util/ArrayList -/
set_option maxRecDepth 100000
def RJ2 : String := "java/util/ArrayList"
def TJ2 : u_T := fun k => match k with
  | 0 => ("java/util/AbstractList", "modCount", "I", false)
  | 1 => ("java/util/ArrayList", "elementData", "[Ljava/lang/Object;", false)
  | _ => ("java/util/ArrayList", "size", "I", false)
def tyJ2 : Nat → FieldType := fun k => match k with
  | 0 => .int
  | 1 => .array (.object "java/lang/Object")
  | _ => .int
abbrev wsJ20 : List Cond := u_ws RJ2 TJ2 3
theorem nmJ2 : ∀ a, a < 3 → ∀ b, b < 3 → a ≠ b → (TJ2 a).2.1 ≠ (TJ2 b).2.1 := by decide +kernel
theorem tyJ2_ok : ∀ k, k < 3 → parseFieldDescriptor (TJ2 k).2.2.1 = some (tyJ2 k) := by decide +kernel
abbrev cJ2_init : ByteArray := prog_37_method_2_code
def yJ2_init : MethodName := ⟨RJ2, "<init>", "()V"⟩
def dkwJ2_init_0 : List UInt8 := [42, 183, 0, 1, 42, 178, 0, 39, 181, 0, 9, 177]
abbrev dktJ2_init_0 : List UInt8 := dkwJ2_init_0 ++ []
theorem dksJ2_init_0 : cJ2_init.data.toList.drop 0 = dktJ2_init_0 := by decide +kernel
theorem dJ2_init_0 : decode cJ2_init 0 = .ok (.aload_n 0, 1) := dk_42 (dk_at dksJ2_init_0 0 rfl rfl)
theorem dJ2_init_1 : decode cJ2_init 1 = .ok (.invokespecial 1, 3) := dk_183 0 1 (dk_at dksJ2_init_0 1 rfl rfl)
theorem dJ2_init_4 : decode cJ2_init 4 = .ok (.aload_n 0, 1) := dk_42 (dk_at dksJ2_init_0 4 rfl rfl)
theorem dJ2_init_5 : decode cJ2_init 5 = .ok (.getstatic 39, 3) := dk_178 0 39 (dk_at dksJ2_init_0 5 rfl rfl)
theorem dJ2_init_8 : decode cJ2_init 8 = .ok (.putfield 9, 3) := dk_181 0 9 (dk_at dksJ2_init_0 8 rfl rfl)
theorem dJ2_init_11 : decode cJ2_init 11 = .ok (.return_, 1) := dk_177 (dk_at dksJ2_init_0 11 rfl rfl)
abbrev cJ2_clear : ByteArray := prog_37_method_40_code
def yJ2_clear : MethodName := ⟨RJ2, "clear", "()V"⟩
def dkwJ2_clear_1 : List UInt8 := [181, 0, 48, 62, 29, 28, 162, 0, 13, 43, 29, 1, 83, 132, 3, 1, 167, 255, 244, 177]
abbrev dktJ2_clear_1 : List UInt8 := dkwJ2_clear_1 ++ []
def dkwJ2_clear_0 : List UInt8 := [42, 89, 180, 0, 63, 4, 96, 181, 0, 63, 42, 180, 0, 9, 76, 42, 180, 0, 48, 61, 42, 3, 90]
abbrev dktJ2_clear_0 : List UInt8 := dkwJ2_clear_0 ++ dktJ2_clear_1
theorem dksJ2_clear_0 : cJ2_clear.data.toList.drop 0 = dktJ2_clear_0 := by decide +kernel
theorem dksJ2_clear_1 : cJ2_clear.data.toList.drop 23 = dktJ2_clear_1 := dk_seg dksJ2_clear_0 23 rfl rfl
theorem dJ2_clear_0 : decode cJ2_clear 0 = .ok (.aload_n 0, 1) := dk_42 (dk_at dksJ2_clear_0 0 rfl rfl)
theorem dJ2_clear_1 : decode cJ2_clear 1 = .ok (.dup, 1) := dk_89 (dk_at dksJ2_clear_0 1 rfl rfl)
theorem dJ2_clear_2 : decode cJ2_clear 2 = .ok (.getfield 63, 3) := dk_180 0 63 (dk_at dksJ2_clear_0 2 rfl rfl)
theorem dJ2_clear_5 : decode cJ2_clear 5 = .ok (.iconst 1, 1) := dk_4 (dk_at dksJ2_clear_0 5 rfl rfl)
theorem dJ2_clear_6 : decode cJ2_clear 6 = .ok (.iadd, 1) := dk_96 (dk_at dksJ2_clear_0 6 rfl rfl)
theorem dJ2_clear_7 : decode cJ2_clear 7 = .ok (.putfield 63, 3) := dk_181 0 63 (dk_at dksJ2_clear_0 7 rfl rfl)
theorem dJ2_clear_10 : decode cJ2_clear 10 = .ok (.aload_n 0, 1) := dk_42 (dk_at dksJ2_clear_0 10 rfl rfl)
theorem dJ2_clear_11 : decode cJ2_clear 11 = .ok (.getfield 9, 3) := dk_180 0 9 (dk_at dksJ2_clear_0 11 rfl rfl)
theorem dJ2_clear_14 : decode cJ2_clear 14 = .ok (.astore_n 1, 1) := dk_76 (dk_at dksJ2_clear_0 14 rfl rfl)
theorem dJ2_clear_15 : decode cJ2_clear 15 = .ok (.aload_n 0, 1) := dk_42 (dk_at dksJ2_clear_0 15 rfl rfl)
theorem dJ2_clear_16 : decode cJ2_clear 16 = .ok (.getfield 48, 3) := dk_180 0 48 (dk_at dksJ2_clear_0 16 rfl rfl)
theorem dJ2_clear_19 : decode cJ2_clear 19 = .ok (.istore_n 2, 1) := dk_61 (dk_at dksJ2_clear_0 19 rfl rfl)
theorem dJ2_clear_20 : decode cJ2_clear 20 = .ok (.aload_n 0, 1) := dk_42 (dk_at dksJ2_clear_0 20 rfl rfl)
theorem dJ2_clear_21 : decode cJ2_clear 21 = .ok (.iconst 0, 1) := dk_3 (dk_at dksJ2_clear_0 21 rfl rfl)
theorem dJ2_clear_22 : decode cJ2_clear 22 = .ok (.dup_x1, 1) := dk_90 (dk_at dksJ2_clear_0 22 rfl rfl)
theorem dJ2_clear_23 : decode cJ2_clear 23 = .ok (.putfield 48, 3) := dk_181 0 48 (dk_at dksJ2_clear_1 0 rfl rfl)
theorem dJ2_clear_26 : decode cJ2_clear 26 = .ok (.istore_n 3, 1) := dk_62 (dk_at dksJ2_clear_1 3 rfl rfl)
theorem dJ2_clear_27 : decode cJ2_clear 27 = .ok (.iload_n 3, 1) := dk_29 (dk_at dksJ2_clear_1 4 rfl rfl)
theorem dJ2_clear_28 : decode cJ2_clear 28 = .ok (.iload_n 2, 1) := dk_28 (dk_at dksJ2_clear_1 5 rfl rfl)
theorem dJ2_clear_29 : decode cJ2_clear 29 = .ok (.if_icmp .ge 13, 3) := dk_162 0 13 (dk_at dksJ2_clear_1 6 rfl rfl)
theorem dJ2_clear_32 : decode cJ2_clear 32 = .ok (.aload_n 1, 1) := dk_43 (dk_at dksJ2_clear_1 9 rfl rfl)
theorem dJ2_clear_33 : decode cJ2_clear 33 = .ok (.iload_n 3, 1) := dk_29 (dk_at dksJ2_clear_1 10 rfl rfl)
theorem dJ2_clear_34 : decode cJ2_clear 34 = .ok (.aconst_null, 1) := dk_1 (dk_at dksJ2_clear_1 11 rfl rfl)
theorem dJ2_clear_35 : decode cJ2_clear 35 = .ok (.aastore, 1) := dk_83 (dk_at dksJ2_clear_1 12 rfl rfl)
theorem dJ2_clear_36 : decode cJ2_clear 36 = .ok (.iinc 3 1, 3) := dk_132 3 1 (dk_at dksJ2_clear_1 13 rfl rfl)
theorem dJ2_clear_39 : decode cJ2_clear 39 = .ok (.goto (-12), 3) := dk_167 255 244 (dk_at dksJ2_clear_1 16 rfl rfl)
theorem dJ2_clear_42 : decode cJ2_clear 42 = .ok (.return_, 1) := dk_177 (dk_at dksJ2_clear_1 19 rfl rfl)
abbrev cJ2_size : ByteArray := prog_37_method_8_code
def yJ2_size : MethodName := ⟨RJ2, "size", "()I"⟩
theorem dJ2_size_0 : decode cJ2_size 0 = .ok (.aload_n 0, 1) := by decide +kernel
theorem dJ2_size_1 : decode cJ2_size 1 = .ok (.getfield 48, 3) := by decide +kernel
theorem dJ2_size_4 : decode cJ2_size 4 = .ok (.ireturn, 1) := by decide +kernel
abbrev cJ2_get : ByteArray := prog_37_method_20_code
def yJ2_get : MethodName := ⟨RJ2, "get", "(I)Ljava/lang/Object;"⟩
def dkwJ2_get_0 : List UInt8 := [27, 42, 180, 0, 48, 184, 0, 118, 87, 42, 27, 182, 0, 123, 176]
abbrev dktJ2_get_0 : List UInt8 := dkwJ2_get_0 ++ []
theorem dksJ2_get_0 : cJ2_get.data.toList.drop 0 = dktJ2_get_0 := by decide +kernel
theorem dJ2_get_0 : decode cJ2_get 0 = .ok (.iload_n 1, 1) := dk_27 (dk_at dksJ2_get_0 0 rfl rfl)
theorem dJ2_get_1 : decode cJ2_get 1 = .ok (.aload_n 0, 1) := dk_42 (dk_at dksJ2_get_0 1 rfl rfl)
theorem dJ2_get_2 : decode cJ2_get 2 = .ok (.getfield 48, 3) := dk_180 0 48 (dk_at dksJ2_get_0 2 rfl rfl)
theorem dJ2_get_5 : decode cJ2_get 5 = .ok (.invokestatic 118, 3) := dk_184 0 118 (dk_at dksJ2_get_0 5 rfl rfl)
theorem dJ2_get_8 : decode cJ2_get 8 = .ok (.pop, 1) := dk_87 (dk_at dksJ2_get_0 8 rfl rfl)
theorem dJ2_get_9 : decode cJ2_get 9 = .ok (.aload_n 0, 1) := dk_42 (dk_at dksJ2_get_0 9 rfl rfl)
theorem dJ2_get_10 : decode cJ2_get 10 = .ok (.iload_n 1, 1) := dk_27 (dk_at dksJ2_get_0 10 rfl rfl)
theorem dJ2_get_11 : decode cJ2_get 11 = .ok (.invokevirtual 123, 3) := dk_182 0 123 (dk_at dksJ2_get_0 11 rfl rfl)
theorem dJ2_get_14 : decode cJ2_get 14 = .ok (.areturn, 1) := dk_176 (dk_at dksJ2_get_0 14 rfl rfl)
abbrev cJ2_elementData : ByteArray := prog_37_method_18_code
def yJ2_elementData : MethodName := ⟨RJ2, "elementData", "(I)Ljava/lang/Object;"⟩
def dkwJ2_elementData_0 : List UInt8 := [42, 180, 0, 9, 27, 50, 176]
abbrev dktJ2_elementData_0 : List UInt8 := dkwJ2_elementData_0 ++ []
theorem dksJ2_elementData_0 : cJ2_elementData.data.toList.drop 0 = dktJ2_elementData_0 := by decide +kernel
theorem dJ2_elementData_0 : decode cJ2_elementData 0 = .ok (.aload_n 0, 1) := dk_42 (dk_at dksJ2_elementData_0 0 rfl rfl)
theorem dJ2_elementData_1 : decode cJ2_elementData 1 = .ok (.getfield 9, 3) := dk_180 0 9 (dk_at dksJ2_elementData_0 1 rfl rfl)
theorem dJ2_elementData_4 : decode cJ2_elementData 4 = .ok (.iload_n 1, 1) := dk_27 (dk_at dksJ2_elementData_0 4 rfl rfl)
theorem dJ2_elementData_5 : decode cJ2_elementData 5 = .ok (.aaload, 1) := dk_50 (dk_at dksJ2_elementData_0 5 rfl rfl)
theorem dJ2_elementData_6 : decode cJ2_elementData 6 = .ok (.areturn, 1) := dk_176 (dk_at dksJ2_elementData_0 6 rfl rfl)
abbrev cJ2_add : ByteArray := prog_37_method_25_code
def yJ2_add : MethodName := ⟨RJ2, "add", "(Ljava/lang/Object;)Z"⟩
def dkwJ2_add_1 : List UInt8 := [172]
abbrev dktJ2_add_1 : List UInt8 := dkwJ2_add_1 ++ []
def dkwJ2_add_0 : List UInt8 := [42, 89, 180, 0, 63, 4, 96, 181, 0, 63, 42, 43, 42, 180, 0, 9, 42, 180, 0, 48, 182, 0, 131, 4]
abbrev dktJ2_add_0 : List UInt8 := dkwJ2_add_0 ++ dktJ2_add_1
theorem dksJ2_add_0 : cJ2_add.data.toList.drop 0 = dktJ2_add_0 := by decide +kernel
theorem dksJ2_add_1 : cJ2_add.data.toList.drop 24 = dktJ2_add_1 := dk_seg dksJ2_add_0 24 rfl rfl
theorem dJ2_add_0 : decode cJ2_add 0 = .ok (.aload_n 0, 1) := dk_42 (dk_at dksJ2_add_0 0 rfl rfl)
theorem dJ2_add_1 : decode cJ2_add 1 = .ok (.dup, 1) := dk_89 (dk_at dksJ2_add_0 1 rfl rfl)
theorem dJ2_add_2 : decode cJ2_add 2 = .ok (.getfield 63, 3) := dk_180 0 63 (dk_at dksJ2_add_0 2 rfl rfl)
theorem dJ2_add_5 : decode cJ2_add 5 = .ok (.iconst 1, 1) := dk_4 (dk_at dksJ2_add_0 5 rfl rfl)
theorem dJ2_add_6 : decode cJ2_add 6 = .ok (.iadd, 1) := dk_96 (dk_at dksJ2_add_0 6 rfl rfl)
theorem dJ2_add_7 : decode cJ2_add 7 = .ok (.putfield 63, 3) := dk_181 0 63 (dk_at dksJ2_add_0 7 rfl rfl)
theorem dJ2_add_10 : decode cJ2_add 10 = .ok (.aload_n 0, 1) := dk_42 (dk_at dksJ2_add_0 10 rfl rfl)
theorem dJ2_add_11 : decode cJ2_add 11 = .ok (.aload_n 1, 1) := dk_43 (dk_at dksJ2_add_0 11 rfl rfl)
theorem dJ2_add_12 : decode cJ2_add 12 = .ok (.aload_n 0, 1) := dk_42 (dk_at dksJ2_add_0 12 rfl rfl)
theorem dJ2_add_13 : decode cJ2_add 13 = .ok (.getfield 9, 3) := dk_180 0 9 (dk_at dksJ2_add_0 13 rfl rfl)
theorem dJ2_add_16 : decode cJ2_add 16 = .ok (.aload_n 0, 1) := dk_42 (dk_at dksJ2_add_0 16 rfl rfl)
theorem dJ2_add_17 : decode cJ2_add 17 = .ok (.getfield 48, 3) := dk_180 0 48 (dk_at dksJ2_add_0 17 rfl rfl)
theorem dJ2_add_20 : decode cJ2_add 20 = .ok (.invokevirtual 131, 3) := dk_182 0 131 (dk_at dksJ2_add_0 20 rfl rfl)
theorem dJ2_add_23 : decode cJ2_add 23 = .ok (.iconst 1, 1) := dk_4 (dk_at dksJ2_add_0 23 rfl rfl)
theorem dJ2_add_24 : decode cJ2_add 24 = .ok (.ireturn, 1) := dk_172 (dk_at dksJ2_add_1 0 rfl rfl)
abbrev cJ2_add_2 : ByteArray := prog_37_method_24_code
def yJ2_add_2 : MethodName := ⟨RJ2, "add", "(Ljava/lang/Object;[Ljava/lang/Object;I)V"⟩
def dkwJ2_add_2_0 : List UInt8 := [29, 44, 190, 160, 0, 8, 42, 182, 0, 129, 77, 44, 29, 43, 83, 42, 29, 4, 96, 181, 0, 48, 177]
abbrev dktJ2_add_2_0 : List UInt8 := dkwJ2_add_2_0 ++ []
theorem dksJ2_add_2_0 : cJ2_add_2.data.toList.drop 0 = dktJ2_add_2_0 := by decide +kernel
theorem dJ2_add_2_0 : decode cJ2_add_2 0 = .ok (.iload_n 3, 1) := dk_29 (dk_at dksJ2_add_2_0 0 rfl rfl)
theorem dJ2_add_2_1 : decode cJ2_add_2 1 = .ok (.aload_n 2, 1) := dk_44 (dk_at dksJ2_add_2_0 1 rfl rfl)
theorem dJ2_add_2_2 : decode cJ2_add_2 2 = .ok (.arraylength, 1) := dk_190 (dk_at dksJ2_add_2_0 2 rfl rfl)
theorem dJ2_add_2_3 : decode cJ2_add_2 3 = .ok (.if_icmp .ne 8, 3) := dk_160 0 8 (dk_at dksJ2_add_2_0 3 rfl rfl)
theorem dJ2_add_2_6 : decode cJ2_add_2 6 = .ok (.aload_n 0, 1) := dk_42 (dk_at dksJ2_add_2_0 6 rfl rfl)
theorem dJ2_add_2_7 : decode cJ2_add_2 7 = .ok (.invokevirtual 129, 3) := dk_182 0 129 (dk_at dksJ2_add_2_0 7 rfl rfl)
theorem dJ2_add_2_10 : decode cJ2_add_2 10 = .ok (.astore_n 2, 1) := dk_77 (dk_at dksJ2_add_2_0 10 rfl rfl)
theorem dJ2_add_2_11 : decode cJ2_add_2 11 = .ok (.aload_n 2, 1) := dk_44 (dk_at dksJ2_add_2_0 11 rfl rfl)
theorem dJ2_add_2_12 : decode cJ2_add_2 12 = .ok (.iload_n 3, 1) := dk_29 (dk_at dksJ2_add_2_0 12 rfl rfl)
theorem dJ2_add_2_13 : decode cJ2_add_2 13 = .ok (.aload_n 1, 1) := dk_43 (dk_at dksJ2_add_2_0 13 rfl rfl)
theorem dJ2_add_2_14 : decode cJ2_add_2 14 = .ok (.aastore, 1) := dk_83 (dk_at dksJ2_add_2_0 14 rfl rfl)
theorem dJ2_add_2_15 : decode cJ2_add_2 15 = .ok (.aload_n 0, 1) := dk_42 (dk_at dksJ2_add_2_0 15 rfl rfl)
theorem dJ2_add_2_16 : decode cJ2_add_2 16 = .ok (.iload_n 3, 1) := dk_29 (dk_at dksJ2_add_2_0 16 rfl rfl)
theorem dJ2_add_2_17 : decode cJ2_add_2 17 = .ok (.iconst 1, 1) := dk_4 (dk_at dksJ2_add_2_0 17 rfl rfl)
theorem dJ2_add_2_18 : decode cJ2_add_2 18 = .ok (.iadd, 1) := dk_96 (dk_at dksJ2_add_2_0 18 rfl rfl)
theorem dJ2_add_2_19 : decode cJ2_add_2 19 = .ok (.putfield 48, 3) := dk_181 0 48 (dk_at dksJ2_add_2_0 19 rfl rfl)
theorem dJ2_add_2_22 : decode cJ2_add_2 22 = .ok (.return_, 1) := dk_177 (dk_at dksJ2_add_2_0 22 rfl rfl)
abbrev cJ2_grow : ByteArray := prog_37_method_7_code
def yJ2_grow : MethodName := ⟨RJ2, "grow", "()[Ljava/lang/Object;"⟩
def dkwJ2_grow_0 : List UInt8 := [42, 42, 180, 0, 48, 4, 96, 182, 0, 69, 176]
abbrev dktJ2_grow_0 : List UInt8 := dkwJ2_grow_0 ++ []
theorem dksJ2_grow_0 : cJ2_grow.data.toList.drop 0 = dktJ2_grow_0 := by decide +kernel
theorem dJ2_grow_0 : decode cJ2_grow 0 = .ok (.aload_n 0, 1) := dk_42 (dk_at dksJ2_grow_0 0 rfl rfl)
theorem dJ2_grow_1 : decode cJ2_grow 1 = .ok (.aload_n 0, 1) := dk_42 (dk_at dksJ2_grow_0 1 rfl rfl)
theorem dJ2_grow_2 : decode cJ2_grow 2 = .ok (.getfield 48, 3) := dk_180 0 48 (dk_at dksJ2_grow_0 2 rfl rfl)
theorem dJ2_grow_5 : decode cJ2_grow 5 = .ok (.iconst 1, 1) := dk_4 (dk_at dksJ2_grow_0 5 rfl rfl)
theorem dJ2_grow_6 : decode cJ2_grow 6 = .ok (.iadd, 1) := dk_96 (dk_at dksJ2_grow_0 6 rfl rfl)
theorem dJ2_grow_7 : decode cJ2_grow 7 = .ok (.invokevirtual 69, 3) := dk_182 0 69 (dk_at dksJ2_grow_0 7 rfl rfl)
theorem dJ2_grow_10 : decode cJ2_grow 10 = .ok (.areturn, 1) := dk_176 (dk_at dksJ2_grow_0 10 rfl rfl)
abbrev cJ2_grow_2 : ByteArray := prog_37_method_6_code
def yJ2_grow_2 : MethodName := ⟨RJ2, "grow", "(I)[Ljava/lang/Object;"⟩
def dkwJ2_grow_2_2 : List UInt8 := [27, 184, 0, 79, 189, 0, 7, 90, 181, 0, 9, 176]
abbrev dktJ2_grow_2_2 : List UInt8 := dkwJ2_grow_2_2 ++ []
def dkwJ2_grow_2_1 : List UInt8 := [28, 4, 122, 184, 0, 73, 62, 42, 42, 180, 0, 9, 29, 184, 0, 66, 90, 181, 0, 9, 176, 42, 16, 10]
abbrev dktJ2_grow_2_1 : List UInt8 := dkwJ2_grow_2_1 ++ dktJ2_grow_2_2
def dkwJ2_grow_2_0 : List UInt8 := [42, 180, 0, 9, 190, 61, 28, 157, 0, 13, 42, 180, 0, 9, 178, 0, 39, 165, 0, 28, 28, 27, 28, 100]
abbrev dktJ2_grow_2_0 : List UInt8 := dkwJ2_grow_2_0 ++ dktJ2_grow_2_1
theorem dksJ2_grow_2_0 : cJ2_grow_2.data.toList.drop 0 = dktJ2_grow_2_0 := by decide +kernel
theorem dksJ2_grow_2_1 : cJ2_grow_2.data.toList.drop 24 = dktJ2_grow_2_1 := dk_seg dksJ2_grow_2_0 24 rfl rfl
theorem dksJ2_grow_2_2 : cJ2_grow_2.data.toList.drop 48 = dktJ2_grow_2_2 := dk_seg dksJ2_grow_2_1 24 rfl rfl
theorem dJ2_grow_2_0 : decode cJ2_grow_2 0 = .ok (.aload_n 0, 1) := dk_42 (dk_at dksJ2_grow_2_0 0 rfl rfl)
theorem dJ2_grow_2_1 : decode cJ2_grow_2 1 = .ok (.getfield 9, 3) := dk_180 0 9 (dk_at dksJ2_grow_2_0 1 rfl rfl)
theorem dJ2_grow_2_4 : decode cJ2_grow_2 4 = .ok (.arraylength, 1) := dk_190 (dk_at dksJ2_grow_2_0 4 rfl rfl)
theorem dJ2_grow_2_5 : decode cJ2_grow_2 5 = .ok (.istore_n 2, 1) := dk_61 (dk_at dksJ2_grow_2_0 5 rfl rfl)
theorem dJ2_grow_2_6 : decode cJ2_grow_2 6 = .ok (.iload_n 2, 1) := dk_28 (dk_at dksJ2_grow_2_0 6 rfl rfl)
theorem dJ2_grow_2_7 : decode cJ2_grow_2 7 = .ok (.ifCond .gt 13, 3) := dk_157 0 13 (dk_at dksJ2_grow_2_0 7 rfl rfl)
theorem dJ2_grow_2_10 : decode cJ2_grow_2 10 = .ok (.aload_n 0, 1) := dk_42 (dk_at dksJ2_grow_2_0 10 rfl rfl)
theorem dJ2_grow_2_11 : decode cJ2_grow_2 11 = .ok (.getfield 9, 3) := dk_180 0 9 (dk_at dksJ2_grow_2_0 11 rfl rfl)
theorem dJ2_grow_2_14 : decode cJ2_grow_2 14 = .ok (.getstatic 39, 3) := dk_178 0 39 (dk_at dksJ2_grow_2_0 14 rfl rfl)
theorem dJ2_grow_2_17 : decode cJ2_grow_2 17 = .ok (.if_acmp .eq 28, 3) := dk_165 0 28 (dk_at dksJ2_grow_2_0 17 rfl rfl)
theorem dJ2_grow_2_20 : decode cJ2_grow_2 20 = .ok (.iload_n 2, 1) := dk_28 (dk_at dksJ2_grow_2_0 20 rfl rfl)
theorem dJ2_grow_2_21 : decode cJ2_grow_2 21 = .ok (.iload_n 1, 1) := dk_27 (dk_at dksJ2_grow_2_0 21 rfl rfl)
theorem dJ2_grow_2_22 : decode cJ2_grow_2 22 = .ok (.iload_n 2, 1) := dk_28 (dk_at dksJ2_grow_2_0 22 rfl rfl)
theorem dJ2_grow_2_23 : decode cJ2_grow_2 23 = .ok (.isub, 1) := dk_100 (dk_at dksJ2_grow_2_0 23 rfl rfl)
theorem dJ2_grow_2_24 : decode cJ2_grow_2 24 = .ok (.iload_n 2, 1) := dk_28 (dk_at dksJ2_grow_2_1 0 rfl rfl)
theorem dJ2_grow_2_25 : decode cJ2_grow_2 25 = .ok (.iconst 1, 1) := dk_4 (dk_at dksJ2_grow_2_1 1 rfl rfl)
theorem dJ2_grow_2_26 : decode cJ2_grow_2 26 = .ok (.ishr, 1) := dk_122 (dk_at dksJ2_grow_2_1 2 rfl rfl)
theorem dJ2_grow_2_27 : decode cJ2_grow_2 27 = .ok (.invokestatic 73, 3) := dk_184 0 73 (dk_at dksJ2_grow_2_1 3 rfl rfl)
theorem dJ2_grow_2_30 : decode cJ2_grow_2 30 = .ok (.istore_n 3, 1) := dk_62 (dk_at dksJ2_grow_2_1 6 rfl rfl)
theorem dJ2_grow_2_31 : decode cJ2_grow_2 31 = .ok (.aload_n 0, 1) := dk_42 (dk_at dksJ2_grow_2_1 7 rfl rfl)
theorem dJ2_grow_2_32 : decode cJ2_grow_2 32 = .ok (.aload_n 0, 1) := dk_42 (dk_at dksJ2_grow_2_1 8 rfl rfl)
theorem dJ2_grow_2_33 : decode cJ2_grow_2 33 = .ok (.getfield 9, 3) := dk_180 0 9 (dk_at dksJ2_grow_2_1 9 rfl rfl)
theorem dJ2_grow_2_36 : decode cJ2_grow_2 36 = .ok (.iload_n 3, 1) := dk_29 (dk_at dksJ2_grow_2_1 12 rfl rfl)
theorem dJ2_grow_2_37 : decode cJ2_grow_2 37 = .ok (.invokestatic 66, 3) := dk_184 0 66 (dk_at dksJ2_grow_2_1 13 rfl rfl)
theorem dJ2_grow_2_40 : decode cJ2_grow_2 40 = .ok (.dup_x1, 1) := dk_90 (dk_at dksJ2_grow_2_1 16 rfl rfl)
theorem dJ2_grow_2_41 : decode cJ2_grow_2 41 = .ok (.putfield 9, 3) := dk_181 0 9 (dk_at dksJ2_grow_2_1 17 rfl rfl)
theorem dJ2_grow_2_44 : decode cJ2_grow_2 44 = .ok (.areturn, 1) := dk_176 (dk_at dksJ2_grow_2_1 20 rfl rfl)
theorem dJ2_grow_2_45 : decode cJ2_grow_2 45 = .ok (.aload_n 0, 1) := dk_42 (dk_at dksJ2_grow_2_1 21 rfl rfl)
theorem dJ2_grow_2_46 : decode cJ2_grow_2 46 = .ok (.bipush 10, 2) := dk_16 10 (dk_at dksJ2_grow_2_1 22 rfl rfl)
theorem dJ2_grow_2_48 : decode cJ2_grow_2 48 = .ok (.iload_n 1, 1) := dk_27 (dk_at dksJ2_grow_2_2 0 rfl rfl)
theorem dJ2_grow_2_49 : decode cJ2_grow_2 49 = .ok (.invokestatic 79, 3) := dk_184 0 79 (dk_at dksJ2_grow_2_2 1 rfl rfl)
theorem dJ2_grow_2_52 : decode cJ2_grow_2 52 = .ok (.anewarray 7, 3) := dk_189 0 7 (dk_at dksJ2_grow_2_2 4 rfl rfl)
theorem dJ2_grow_2_55 : decode cJ2_grow_2 55 = .ok (.dup_x1, 1) := dk_90 (dk_at dksJ2_grow_2_2 7 rfl rfl)
theorem dJ2_grow_2_56 : decode cJ2_grow_2 56 = .ok (.putfield 9, 3) := dk_181 0 9 (dk_at dksJ2_grow_2_2 8 rfl rfl)
theorem dJ2_grow_2_59 : decode cJ2_grow_2 59 = .ok (.areturn, 1) := dk_176 (dk_at dksJ2_grow_2_2 11 rfl rfl)
abbrev cJ2_isEmpty : ByteArray := prog_37_method_9_code
def yJ2_isEmpty : MethodName := ⟨RJ2, "isEmpty", "()Z"⟩
def dkwJ2_isEmpty_0 : List UInt8 := [42, 180, 0, 48, 154, 0, 7, 4, 167, 0, 4, 3, 172]
abbrev dktJ2_isEmpty_0 : List UInt8 := dkwJ2_isEmpty_0 ++ []
theorem dksJ2_isEmpty_0 : cJ2_isEmpty.data.toList.drop 0 = dktJ2_isEmpty_0 := by decide +kernel
theorem dJ2_isEmpty_0 : decode cJ2_isEmpty 0 = .ok (.aload_n 0, 1) := dk_42 (dk_at dksJ2_isEmpty_0 0 rfl rfl)
theorem dJ2_isEmpty_1 : decode cJ2_isEmpty 1 = .ok (.getfield 48, 3) := dk_180 0 48 (dk_at dksJ2_isEmpty_0 1 rfl rfl)
theorem dJ2_isEmpty_4 : decode cJ2_isEmpty 4 = .ok (.ifCond .ne 7, 3) := dk_154 0 7 (dk_at dksJ2_isEmpty_0 4 rfl rfl)
theorem dJ2_isEmpty_7 : decode cJ2_isEmpty 7 = .ok (.iconst 1, 1) := dk_4 (dk_at dksJ2_isEmpty_0 7 rfl rfl)
theorem dJ2_isEmpty_8 : decode cJ2_isEmpty 8 = .ok (.goto 4, 3) := dk_167 0 4 (dk_at dksJ2_isEmpty_0 8 rfl rfl)
theorem dJ2_isEmpty_11 : decode cJ2_isEmpty 11 = .ok (.iconst 0, 1) := dk_3 (dk_at dksJ2_isEmpty_0 11 rfl rfl)
theorem dJ2_isEmpty_12 : decode cJ2_isEmpty 12 = .ok (.ireturn, 1) := dk_172 (dk_at dksJ2_isEmpty_0 12 rfl rfl)
abbrev cJ2_remove : ByteArray := prog_37_method_29_code
def yJ2_remove : MethodName := ⟨RJ2, "remove", "(I)Ljava/lang/Object;"⟩
def dkwJ2_remove_1 : List UInt8 := [45, 176]
abbrev dktJ2_remove_1 : List UInt8 := dkwJ2_remove_1 ++ []
def dkwJ2_remove_0 : List UInt8 := [27, 42, 180, 0, 48, 184, 0, 118, 87, 42, 180, 0, 9, 77, 44, 27, 50, 78, 42, 44, 27, 182, 0, 144]
abbrev dktJ2_remove_0 : List UInt8 := dkwJ2_remove_0 ++ dktJ2_remove_1
theorem dksJ2_remove_0 : cJ2_remove.data.toList.drop 0 = dktJ2_remove_0 := by decide +kernel
theorem dksJ2_remove_1 : cJ2_remove.data.toList.drop 24 = dktJ2_remove_1 := dk_seg dksJ2_remove_0 24 rfl rfl
theorem dJ2_remove_0 : decode cJ2_remove 0 = .ok (.iload_n 1, 1) := dk_27 (dk_at dksJ2_remove_0 0 rfl rfl)
theorem dJ2_remove_1 : decode cJ2_remove 1 = .ok (.aload_n 0, 1) := dk_42 (dk_at dksJ2_remove_0 1 rfl rfl)
theorem dJ2_remove_2 : decode cJ2_remove 2 = .ok (.getfield 48, 3) := dk_180 0 48 (dk_at dksJ2_remove_0 2 rfl rfl)
theorem dJ2_remove_5 : decode cJ2_remove 5 = .ok (.invokestatic 118, 3) := dk_184 0 118 (dk_at dksJ2_remove_0 5 rfl rfl)
theorem dJ2_remove_8 : decode cJ2_remove 8 = .ok (.pop, 1) := dk_87 (dk_at dksJ2_remove_0 8 rfl rfl)
theorem dJ2_remove_9 : decode cJ2_remove 9 = .ok (.aload_n 0, 1) := dk_42 (dk_at dksJ2_remove_0 9 rfl rfl)
theorem dJ2_remove_10 : decode cJ2_remove 10 = .ok (.getfield 9, 3) := dk_180 0 9 (dk_at dksJ2_remove_0 10 rfl rfl)
theorem dJ2_remove_13 : decode cJ2_remove 13 = .ok (.astore_n 2, 1) := dk_77 (dk_at dksJ2_remove_0 13 rfl rfl)
theorem dJ2_remove_14 : decode cJ2_remove 14 = .ok (.aload_n 2, 1) := dk_44 (dk_at dksJ2_remove_0 14 rfl rfl)
theorem dJ2_remove_15 : decode cJ2_remove 15 = .ok (.iload_n 1, 1) := dk_27 (dk_at dksJ2_remove_0 15 rfl rfl)
theorem dJ2_remove_16 : decode cJ2_remove 16 = .ok (.aaload, 1) := dk_50 (dk_at dksJ2_remove_0 16 rfl rfl)
theorem dJ2_remove_17 : decode cJ2_remove 17 = .ok (.astore_n 3, 1) := dk_78 (dk_at dksJ2_remove_0 17 rfl rfl)
theorem dJ2_remove_18 : decode cJ2_remove 18 = .ok (.aload_n 0, 1) := dk_42 (dk_at dksJ2_remove_0 18 rfl rfl)
theorem dJ2_remove_19 : decode cJ2_remove 19 = .ok (.aload_n 2, 1) := dk_44 (dk_at dksJ2_remove_0 19 rfl rfl)
theorem dJ2_remove_20 : decode cJ2_remove 20 = .ok (.iload_n 1, 1) := dk_27 (dk_at dksJ2_remove_0 20 rfl rfl)
theorem dJ2_remove_21 : decode cJ2_remove 21 = .ok (.invokevirtual 144, 3) := dk_182 0 144 (dk_at dksJ2_remove_0 21 rfl rfl)
theorem dJ2_remove_24 : decode cJ2_remove 24 = .ok (.aload_n 3, 1) := dk_45 (dk_at dksJ2_remove_1 0 rfl rfl)
theorem dJ2_remove_25 : decode cJ2_remove 25 = .ok (.areturn, 1) := dk_176 (dk_at dksJ2_remove_1 1 rfl rfl)
abbrev cJ2_fastRemove : ByteArray := prog_37_method_39_code
def yJ2_fastRemove : MethodName := ⟨RJ2, "fastRemove", "([Ljava/lang/Object;I)V"⟩
def dkwJ2_fastRemove_1 : List UInt8 := [4, 96, 43, 28, 29, 28, 100, 184, 0, 112, 43, 42, 29, 90, 181, 0, 48, 1, 83, 177]
abbrev dktJ2_fastRemove_1 : List UInt8 := dkwJ2_fastRemove_1 ++ []
def dkwJ2_fastRemove_0 : List UInt8 := [42, 89, 180, 0, 63, 4, 96, 181, 0, 63, 42, 180, 0, 48, 4, 100, 89, 62, 28, 164, 0, 15, 43, 28]
abbrev dktJ2_fastRemove_0 : List UInt8 := dkwJ2_fastRemove_0 ++ dktJ2_fastRemove_1
theorem dksJ2_fastRemove_0 : cJ2_fastRemove.data.toList.drop 0 = dktJ2_fastRemove_0 := by decide +kernel
theorem dksJ2_fastRemove_1 : cJ2_fastRemove.data.toList.drop 24 = dktJ2_fastRemove_1 := dk_seg dksJ2_fastRemove_0 24 rfl rfl
theorem dJ2_fastRemove_0 : decode cJ2_fastRemove 0 = .ok (.aload_n 0, 1) := dk_42 (dk_at dksJ2_fastRemove_0 0 rfl rfl)
theorem dJ2_fastRemove_1 : decode cJ2_fastRemove 1 = .ok (.dup, 1) := dk_89 (dk_at dksJ2_fastRemove_0 1 rfl rfl)
theorem dJ2_fastRemove_2 : decode cJ2_fastRemove 2 = .ok (.getfield 63, 3) := dk_180 0 63 (dk_at dksJ2_fastRemove_0 2 rfl rfl)
theorem dJ2_fastRemove_5 : decode cJ2_fastRemove 5 = .ok (.iconst 1, 1) := dk_4 (dk_at dksJ2_fastRemove_0 5 rfl rfl)
theorem dJ2_fastRemove_6 : decode cJ2_fastRemove 6 = .ok (.iadd, 1) := dk_96 (dk_at dksJ2_fastRemove_0 6 rfl rfl)
theorem dJ2_fastRemove_7 : decode cJ2_fastRemove 7 = .ok (.putfield 63, 3) := dk_181 0 63 (dk_at dksJ2_fastRemove_0 7 rfl rfl)
theorem dJ2_fastRemove_10 : decode cJ2_fastRemove 10 = .ok (.aload_n 0, 1) := dk_42 (dk_at dksJ2_fastRemove_0 10 rfl rfl)
theorem dJ2_fastRemove_11 : decode cJ2_fastRemove 11 = .ok (.getfield 48, 3) := dk_180 0 48 (dk_at dksJ2_fastRemove_0 11 rfl rfl)
theorem dJ2_fastRemove_14 : decode cJ2_fastRemove 14 = .ok (.iconst 1, 1) := dk_4 (dk_at dksJ2_fastRemove_0 14 rfl rfl)
theorem dJ2_fastRemove_15 : decode cJ2_fastRemove 15 = .ok (.isub, 1) := dk_100 (dk_at dksJ2_fastRemove_0 15 rfl rfl)
theorem dJ2_fastRemove_16 : decode cJ2_fastRemove 16 = .ok (.dup, 1) := dk_89 (dk_at dksJ2_fastRemove_0 16 rfl rfl)
theorem dJ2_fastRemove_17 : decode cJ2_fastRemove 17 = .ok (.istore_n 3, 1) := dk_62 (dk_at dksJ2_fastRemove_0 17 rfl rfl)
theorem dJ2_fastRemove_18 : decode cJ2_fastRemove 18 = .ok (.iload_n 2, 1) := dk_28 (dk_at dksJ2_fastRemove_0 18 rfl rfl)
theorem dJ2_fastRemove_19 : decode cJ2_fastRemove 19 = .ok (.if_icmp .le 15, 3) := dk_164 0 15 (dk_at dksJ2_fastRemove_0 19 rfl rfl)
theorem dJ2_fastRemove_22 : decode cJ2_fastRemove 22 = .ok (.aload_n 1, 1) := dk_43 (dk_at dksJ2_fastRemove_0 22 rfl rfl)
theorem dJ2_fastRemove_23 : decode cJ2_fastRemove 23 = .ok (.iload_n 2, 1) := dk_28 (dk_at dksJ2_fastRemove_0 23 rfl rfl)
theorem dJ2_fastRemove_24 : decode cJ2_fastRemove 24 = .ok (.iconst 1, 1) := dk_4 (dk_at dksJ2_fastRemove_1 0 rfl rfl)
theorem dJ2_fastRemove_25 : decode cJ2_fastRemove 25 = .ok (.iadd, 1) := dk_96 (dk_at dksJ2_fastRemove_1 1 rfl rfl)
theorem dJ2_fastRemove_26 : decode cJ2_fastRemove 26 = .ok (.aload_n 1, 1) := dk_43 (dk_at dksJ2_fastRemove_1 2 rfl rfl)
theorem dJ2_fastRemove_27 : decode cJ2_fastRemove 27 = .ok (.iload_n 2, 1) := dk_28 (dk_at dksJ2_fastRemove_1 3 rfl rfl)
theorem dJ2_fastRemove_28 : decode cJ2_fastRemove 28 = .ok (.iload_n 3, 1) := dk_29 (dk_at dksJ2_fastRemove_1 4 rfl rfl)
theorem dJ2_fastRemove_29 : decode cJ2_fastRemove 29 = .ok (.iload_n 2, 1) := dk_28 (dk_at dksJ2_fastRemove_1 5 rfl rfl)
theorem dJ2_fastRemove_30 : decode cJ2_fastRemove 30 = .ok (.isub, 1) := dk_100 (dk_at dksJ2_fastRemove_1 6 rfl rfl)
theorem dJ2_fastRemove_31 : decode cJ2_fastRemove 31 = .ok (.invokestatic 112, 3) := dk_184 0 112 (dk_at dksJ2_fastRemove_1 7 rfl rfl)
theorem dJ2_fastRemove_34 : decode cJ2_fastRemove 34 = .ok (.aload_n 1, 1) := dk_43 (dk_at dksJ2_fastRemove_1 10 rfl rfl)
theorem dJ2_fastRemove_35 : decode cJ2_fastRemove 35 = .ok (.aload_n 0, 1) := dk_42 (dk_at dksJ2_fastRemove_1 11 rfl rfl)
theorem dJ2_fastRemove_36 : decode cJ2_fastRemove 36 = .ok (.iload_n 3, 1) := dk_29 (dk_at dksJ2_fastRemove_1 12 rfl rfl)
theorem dJ2_fastRemove_37 : decode cJ2_fastRemove 37 = .ok (.dup_x1, 1) := dk_90 (dk_at dksJ2_fastRemove_1 13 rfl rfl)
theorem dJ2_fastRemove_38 : decode cJ2_fastRemove 38 = .ok (.putfield 48, 3) := dk_181 0 48 (dk_at dksJ2_fastRemove_1 14 rfl rfl)
theorem dJ2_fastRemove_41 : decode cJ2_fastRemove 41 = .ok (.aconst_null, 1) := dk_1 (dk_at dksJ2_fastRemove_1 17 rfl rfl)
theorem dJ2_fastRemove_42 : decode cJ2_fastRemove 42 = .ok (.aastore, 1) := dk_83 (dk_at dksJ2_fastRemove_1 18 rfl rfl)
theorem dJ2_fastRemove_43 : decode cJ2_fastRemove 43 = .ok (.return_, 1) := dk_177 (dk_at dksJ2_fastRemove_1 19 rfl rfl)
theorem q149 : (Jvm.Cond.initialized "java/util/ArrayList") ∈ lw_all := lw_g (lw_at lw_m1 5 rfl) rfl
theorem q193 : (Jvm.Cond.instantiable "java/util/ArrayList" (3 : Nat)) ∈ lw_all := lw_g (lw_at lw_m1 49 rfl) rfl
theorem q195 : (Jvm.Cond.instanceMethod ({ cls := "java/util/ArrayList", name := "<init>", desc := "()V" } : Jvm.MethodName)) ∈ lw_all := lw_g (lw_at lw_m1 51 rfl) rfl
theorem q196 : (Jvm.Cond.code ({ cls := "java/util/ArrayList", name := "<init>", desc := "()V" } : Jvm.MethodName) prog_37_method_2_code (1 : Nat) (Option.none : Option Jvm.ClassFile.FieldType)) ∈ lw_all := lw_g (lw_at lw_m1 52 rfl) rfl
theorem q197 : (Jvm.Cond.methodLink "java/util/ArrayList" (1 : Nat) ({ cls := "java/util/AbstractList", name := "<init>", desc := "()V" } : Jvm.MethodName)) ∈ lw_all := lw_g (lw_at lw_m1 53 rfl) rfl
theorem q204 : (Jvm.Cond.fieldLink "java/util/ArrayList" (39 : Nat) "java/util/ArrayList" "DEFAULTCAPACITY_EMPTY_ELEMENTDATA" "[Ljava/lang/Object;") ∈ lw_all := lw_g (lw_at lw_m1 60 rfl) rfl
theorem q205 : (Jvm.Cond.laysStatic "java/util/ArrayList" "DEFAULTCAPACITY_EMPTY_ELEMENTDATA" "[Ljava/lang/Object;") ∈ lw_tbl := lw_at lw_m1 61 rfl
theorem q206 : (Jvm.Cond.fieldLink "java/util/ArrayList" (9 : Nat) "java/util/ArrayList" "elementData" "[Ljava/lang/Object;") ∈ lw_all := lw_g (lw_at lw_m1 62 rfl) rfl
theorem q207 : (Jvm.Cond.fieldLink "java/util/ArrayList" (48 : Nat) "java/util/ArrayList" "size" "I") ∈ lw_all := lw_g (lw_at lw_m1 63 rfl) rfl
theorem q209 : (Jvm.Cond.fieldLink "java/util/ArrayList" (63 : Nat) "java/util/ArrayList" "modCount" "I") ∈ lw_all := lw_g (lw_at lw_m1 65 rfl) rfl
theorem q210 : (Jvm.Cond.sameField "java/util/ArrayList" "java/util/AbstractList" "modCount" "I") ∈ lw_all := lw_g (lw_at lw_m1 66 rfl) rfl
theorem q211 : (Jvm.Cond.lays "java/util/ArrayList" "java/util/ArrayList" "elementData" "[Ljava/lang/Object;") ∈ lw_all := lw_g (lw_at lw_m1 67 rfl) rfl
theorem q212 : (Jvm.Cond.soleField "java/util/ArrayList" "elementData") ∈ lw_all := lw_g (lw_at lw_m1 68 rfl) rfl
theorem q213 : (Jvm.Cond.lays "java/util/ArrayList" "java/util/ArrayList" "size" "I") ∈ lw_all := lw_g (lw_at lw_m1 69 rfl) rfl
theorem q214 : (Jvm.Cond.soleField "java/util/ArrayList" "size") ∈ lw_all := lw_g (lw_at lw_m1 70 rfl) rfl
theorem q215 : (Jvm.Cond.lays "java/util/ArrayList" "java/util/AbstractList" "modCount" "I") ∈ lw_all := lw_g (lw_at lw_m1 71 rfl) rfl
theorem q217 : (Jvm.Cond.superclass "java/util/ArrayList" "java/util/AbstractList") ∈ lw_all := lw_g (lw_at lw_m1 73 rfl) rfl
theorem q310 : (Jvm.Cond.instanceMethod ({ cls := "java/util/ArrayList", name := "clear", desc := "()V" } : Jvm.MethodName)) ∈ lw_all := lw_g (lw_at lw_m1 166 rfl) rfl
theorem q311 : (Jvm.Cond.selects "java/util/ArrayList" ({ cls := "java/util/ArrayList", name := "clear", desc := "()V" } : Jvm.MethodName) ({ cls := "java/util/ArrayList", name := "clear", desc := "()V" } : Jvm.MethodName)) ∈ lw_all := lw_g (lw_at lw_m1 167 rfl) rfl
theorem q312 : (Jvm.Cond.code ({ cls := "java/util/ArrayList", name := "clear", desc := "()V" } : Jvm.MethodName) prog_37_method_40_code (4 : Nat) (Option.none : Option Jvm.ClassFile.FieldType)) ∈ lw_all := lw_g (lw_at lw_m1 168 rfl) rfl
theorem q512 : (Jvm.Cond.instanceMethod ({ cls := "java/util/ArrayList", name := "size", desc := "()I" } : Jvm.MethodName)) ∈ lw_all := lw_g (lw_at lw_m2 128 rfl) rfl
theorem q513 : (Jvm.Cond.selects "java/util/ArrayList" ({ cls := "java/util/ArrayList", name := "size", desc := "()I" } : Jvm.MethodName) ({ cls := "java/util/ArrayList", name := "size", desc := "()I" } : Jvm.MethodName)) ∈ lw_all := lw_g (lw_at lw_m2 129 rfl) rfl
theorem q514 : (Jvm.Cond.code ({ cls := "java/util/ArrayList", name := "size", desc := "()I" } : Jvm.MethodName) prog_37_method_8_code (1 : Nat) (Option.some Jvm.ClassFile.FieldType.int)) ∈ lw_all := lw_g (lw_at lw_m2 130 rfl) rfl
theorem q626 : (Jvm.Cond.instanceMethod ({ cls := "java/util/ArrayList", name := "get", desc := "(I)Ljava/lang/Object;" } : Jvm.MethodName)) ∈ lw_all := lw_g (lw_at lw_m3 2 rfl) rfl
theorem q627 : (Jvm.Cond.selects "java/util/ArrayList" ({ cls := "java/util/ArrayList", name := "get", desc := "(I)Ljava/lang/Object;" } : Jvm.MethodName) ({ cls := "java/util/ArrayList", name := "get", desc := "(I)Ljava/lang/Object;" } : Jvm.MethodName)) ∈ lw_all := lw_g (lw_at lw_m3 3 rfl) rfl
theorem q628 : (Jvm.Cond.code ({ cls := "java/util/ArrayList", name := "get", desc := "(I)Ljava/lang/Object;" } : Jvm.MethodName) prog_37_method_20_code (2 : Nat) (Option.some (Jvm.ClassFile.FieldType.object "java/lang/Object"))) ∈ lw_all := lw_g (lw_at lw_m3 4 rfl) rfl
theorem q629 : (Jvm.Cond.methodLink "java/util/ArrayList" (118 : Nat) ({ cls := "java/util/Objects", name := "checkIndex", desc := "(II)I" } : Jvm.MethodName)) ∈ lw_all := lw_g (lw_at lw_m3 5 rfl) rfl
theorem q633 : (Jvm.Cond.methodLink "java/util/ArrayList" (123 : Nat) ({ cls := "java/util/ArrayList", name := "elementData", desc := "(I)Ljava/lang/Object;" } : Jvm.MethodName)) ∈ lw_all := lw_g (lw_at lw_m3 9 rfl) rfl
theorem q634 : (Jvm.Cond.instanceMethod ({ cls := "java/util/ArrayList", name := "elementData", desc := "(I)Ljava/lang/Object;" } : Jvm.MethodName)) ∈ lw_all := lw_g (lw_at lw_m3 10 rfl) rfl
theorem q635 : (Jvm.Cond.selects "java/util/ArrayList" ({ cls := "java/util/ArrayList", name := "elementData", desc := "(I)Ljava/lang/Object;" } : Jvm.MethodName) ({ cls := "java/util/ArrayList", name := "elementData", desc := "(I)Ljava/lang/Object;" } : Jvm.MethodName)) ∈ lw_all := lw_g (lw_at lw_m3 11 rfl) rfl
theorem q636 : (Jvm.Cond.code ({ cls := "java/util/ArrayList", name := "elementData", desc := "(I)Ljava/lang/Object;" } : Jvm.MethodName) prog_37_method_18_code (2 : Nat) (Option.some (Jvm.ClassFile.FieldType.object "java/lang/Object"))) ∈ lw_all := lw_g (lw_at lw_m3 12 rfl) rfl
theorem q747 : (Jvm.Cond.instanceMethod ({ cls := "java/util/ArrayList", name := "add", desc := "(Ljava/lang/Object;)Z" } : Jvm.MethodName)) ∈ lw_all := lw_g (lw_at lw_m3 123 rfl) rfl
theorem q748 : (Jvm.Cond.selects "java/util/ArrayList" ({ cls := "java/util/ArrayList", name := "add", desc := "(Ljava/lang/Object;)Z" } : Jvm.MethodName) ({ cls := "java/util/ArrayList", name := "add", desc := "(Ljava/lang/Object;)Z" } : Jvm.MethodName)) ∈ lw_all := lw_g (lw_at lw_m3 124 rfl) rfl
theorem q749 : (Jvm.Cond.code ({ cls := "java/util/ArrayList", name := "add", desc := "(Ljava/lang/Object;)Z" } : Jvm.MethodName) prog_37_method_25_code (2 : Nat) (Option.some Jvm.ClassFile.FieldType.boolean)) ∈ lw_all := lw_g (lw_at lw_m3 125 rfl) rfl
theorem q750 : (Jvm.Cond.methodLink "java/util/ArrayList" (131 : Nat) ({ cls := "java/util/ArrayList", name := "add", desc := "(Ljava/lang/Object;[Ljava/lang/Object;I)V" } : Jvm.MethodName)) ∈ lw_all := lw_g (lw_at lw_m3 126 rfl) rfl
theorem q751 : (Jvm.Cond.privateMethod ({ cls := "java/util/ArrayList", name := "add", desc := "(Ljava/lang/Object;[Ljava/lang/Object;I)V" } : Jvm.MethodName)) ∈ lw_tbl := lw_at lw_m3 127 rfl
theorem q752 : (Jvm.Cond.instanceMethod ({ cls := "java/util/ArrayList", name := "add", desc := "(Ljava/lang/Object;[Ljava/lang/Object;I)V" } : Jvm.MethodName)) ∈ lw_all := lw_g (lw_at lw_m3 128 rfl) rfl
theorem q753 : (Jvm.Cond.code ({ cls := "java/util/ArrayList", name := "add", desc := "(Ljava/lang/Object;[Ljava/lang/Object;I)V" } : Jvm.MethodName) prog_37_method_24_code (4 : Nat) (Option.none : Option Jvm.ClassFile.FieldType)) ∈ lw_all := lw_g (lw_at lw_m3 129 rfl) rfl
theorem q754 : (Jvm.Cond.methodLink "java/util/ArrayList" (129 : Nat) ({ cls := "java/util/ArrayList", name := "grow", desc := "()[Ljava/lang/Object;" } : Jvm.MethodName)) ∈ lw_all := lw_g (lw_at lw_m3 130 rfl) rfl
theorem q755 : (Jvm.Cond.privateMethod ({ cls := "java/util/ArrayList", name := "grow", desc := "()[Ljava/lang/Object;" } : Jvm.MethodName)) ∈ lw_tbl := lw_at lw_m3 131 rfl
theorem q756 : (Jvm.Cond.instanceMethod ({ cls := "java/util/ArrayList", name := "grow", desc := "()[Ljava/lang/Object;" } : Jvm.MethodName)) ∈ lw_all := lw_g (lw_at lw_m3 132 rfl) rfl
theorem q757 : (Jvm.Cond.code ({ cls := "java/util/ArrayList", name := "grow", desc := "()[Ljava/lang/Object;" } : Jvm.MethodName) prog_37_method_7_code (1 : Nat) (Option.some (Jvm.ClassFile.FieldType.array (Jvm.ClassFile.FieldType.object "java/lang/Object")))) ∈ lw_all := lw_g (lw_at lw_m3 133 rfl) rfl
theorem q758 : (Jvm.Cond.methodLink "java/util/ArrayList" (69 : Nat) ({ cls := "java/util/ArrayList", name := "grow", desc := "(I)[Ljava/lang/Object;" } : Jvm.MethodName)) ∈ lw_all := lw_g (lw_at lw_m3 134 rfl) rfl
theorem q759 : (Jvm.Cond.privateMethod ({ cls := "java/util/ArrayList", name := "grow", desc := "(I)[Ljava/lang/Object;" } : Jvm.MethodName)) ∈ lw_tbl := lw_at lw_m3 135 rfl
theorem q760 : (Jvm.Cond.instanceMethod ({ cls := "java/util/ArrayList", name := "grow", desc := "(I)[Ljava/lang/Object;" } : Jvm.MethodName)) ∈ lw_all := lw_g (lw_at lw_m3 136 rfl) rfl
theorem q761 : (Jvm.Cond.code ({ cls := "java/util/ArrayList", name := "grow", desc := "(I)[Ljava/lang/Object;" } : Jvm.MethodName) prog_37_method_6_code (4 : Nat) (Option.some (Jvm.ClassFile.FieldType.array (Jvm.ClassFile.FieldType.object "java/lang/Object")))) ∈ lw_all := lw_g (lw_at lw_m3 137 rfl) rfl
theorem q762 : (Jvm.Cond.methodLink "java/util/ArrayList" (73 : Nat) ({ cls := "jdk/internal/util/ArraysSupport", name := "newLength", desc := "(III)I" } : Jvm.MethodName)) ∈ lw_all := lw_g (lw_at lw_m3 138 rfl) rfl
theorem q772 : (Jvm.Cond.methodLink "java/util/ArrayList" (66 : Nat) ({ cls := "java/util/Arrays", name := "copyOf", desc := "([Ljava/lang/Object;I)[Ljava/lang/Object;" } : Jvm.MethodName)) ∈ lw_all := lw_g (lw_at lw_m3 148 rfl) rfl
theorem q798 : (Jvm.Cond.selects "java/util/ArrayList" ({ cls := "java/lang/Object", name := "getClass", desc := "()Ljava/lang/Class;" } : Jvm.MethodName) ({ cls := "java/lang/Object", name := "getClass", desc := "()Ljava/lang/Class;" } : Jvm.MethodName)) ∈ lw_all := lw_g (lw_at lw_m3 174 rfl) rfl
theorem q812 : (Jvm.Cond.methodLink "java/util/ArrayList" (79 : Nat) ({ cls := "java/lang/Math", name := "max", desc := "(II)I" } : Jvm.MethodName)) ∈ lw_all := lw_g (lw_at lw_m3 188 rfl) rfl
theorem q813 : (Jvm.Cond.classLink "java/util/ArrayList" (7 : Nat) "java/lang/Object") ∈ lw_all := lw_g (lw_at lw_m3 189 rfl) rfl
theorem q1139 : (Jvm.Cond.instanceMethod ({ cls := "java/util/ArrayList", name := "isEmpty", desc := "()Z" } : Jvm.MethodName)) ∈ lw_all := lw_g (lw_at lw_m5 35 rfl) rfl
theorem q1140 : (Jvm.Cond.selects "java/util/ArrayList" ({ cls := "java/util/ArrayList", name := "isEmpty", desc := "()Z" } : Jvm.MethodName) ({ cls := "java/util/ArrayList", name := "isEmpty", desc := "()Z" } : Jvm.MethodName)) ∈ lw_all := lw_g (lw_at lw_m5 36 rfl) rfl
theorem q1141 : (Jvm.Cond.code ({ cls := "java/util/ArrayList", name := "isEmpty", desc := "()Z" } : Jvm.MethodName) prog_37_method_9_code (1 : Nat) (Option.some Jvm.ClassFile.FieldType.boolean)) ∈ lw_all := lw_g (lw_at lw_m5 37 rfl) rfl
theorem q1162 : (Jvm.Cond.instanceMethod ({ cls := "java/util/ArrayList", name := "remove", desc := "(I)Ljava/lang/Object;" } : Jvm.MethodName)) ∈ lw_all := lw_g (lw_at lw_m5 58 rfl) rfl
theorem q1163 : (Jvm.Cond.selects "java/util/ArrayList" ({ cls := "java/util/ArrayList", name := "remove", desc := "(I)Ljava/lang/Object;" } : Jvm.MethodName) ({ cls := "java/util/ArrayList", name := "remove", desc := "(I)Ljava/lang/Object;" } : Jvm.MethodName)) ∈ lw_all := lw_g (lw_at lw_m5 59 rfl) rfl
theorem q1164 : (Jvm.Cond.code ({ cls := "java/util/ArrayList", name := "remove", desc := "(I)Ljava/lang/Object;" } : Jvm.MethodName) prog_37_method_29_code (4 : Nat) (Option.some (Jvm.ClassFile.FieldType.object "java/lang/Object"))) ∈ lw_all := lw_g (lw_at lw_m5 60 rfl) rfl
theorem q1165 : (Jvm.Cond.methodLink "java/util/ArrayList" (144 : Nat) ({ cls := "java/util/ArrayList", name := "fastRemove", desc := "([Ljava/lang/Object;I)V" } : Jvm.MethodName)) ∈ lw_all := lw_g (lw_at lw_m5 61 rfl) rfl
theorem q1166 : (Jvm.Cond.privateMethod ({ cls := "java/util/ArrayList", name := "fastRemove", desc := "([Ljava/lang/Object;I)V" } : Jvm.MethodName)) ∈ lw_tbl := lw_at lw_m5 62 rfl
theorem q1167 : (Jvm.Cond.instanceMethod ({ cls := "java/util/ArrayList", name := "fastRemove", desc := "([Ljava/lang/Object;I)V" } : Jvm.MethodName)) ∈ lw_all := lw_g (lw_at lw_m5 63 rfl) rfl
theorem q1168 : (Jvm.Cond.code ({ cls := "java/util/ArrayList", name := "fastRemove", desc := "([Ljava/lang/Object;I)V" } : Jvm.MethodName) prog_37_method_39_code (4 : Nat) (Option.none : Option Jvm.ClassFile.FieldType)) ∈ lw_all := lw_g (lw_at lw_m5 64 rfl) rfl
theorem q1169 : (Jvm.Cond.methodLink "java/util/ArrayList" (112 : Nat) ({ cls := "java/lang/System", name := "arraycopy", desc := "(Ljava/lang/Object;ILjava/lang/Object;II)V" } : Jvm.MethodName)) ∈ lw_all := lw_g (lw_at lw_m5 65 rfl) rfl
theorem q2369 : (Jvm.Cond.castable "java/util/ArrayList" "java/lang/Object") ∈ lw_tbl := lw_at lw_m10 65 rfl
theorem in_J2 : ∀ w ∈ wsJ20, w ∈ lw_all := lw_in wsJ20 [215, 211, 213] (by decide +kernel) (by decide +kernel)

/-! java/lang/String -/
set_option maxRecDepth 100000
def RJ3 : String := "java/lang/String"
abbrev cJ3_length : ByteArray := prog_30_method_54_code
def yJ3_length : MethodName := ⟨RJ3, "length", "()I"⟩
def dkwJ3_length_0 : List UInt8 := [42, 180, 0, 9, 190, 42, 182, 1, 79, 122, 172]
abbrev dktJ3_length_0 : List UInt8 := dkwJ3_length_0 ++ []
theorem dksJ3_length_0 : cJ3_length.data.toList.drop 0 = dktJ3_length_0 := by decide +kernel
theorem dJ3_length_0 : decode cJ3_length 0 = .ok (.aload_n 0, 1) := dk_42 (dk_at dksJ3_length_0 0 rfl rfl)
theorem dJ3_length_1 : decode cJ3_length 1 = .ok (.getfield 9, 3) := dk_180 0 9 (dk_at dksJ3_length_0 1 rfl rfl)
theorem dJ3_length_4 : decode cJ3_length 4 = .ok (.arraylength, 1) := dk_190 (dk_at dksJ3_length_0 4 rfl rfl)
theorem dJ3_length_5 : decode cJ3_length 5 = .ok (.aload_n 0, 1) := dk_42 (dk_at dksJ3_length_0 5 rfl rfl)
theorem dJ3_length_6 : decode cJ3_length 6 = .ok (.invokevirtual 335, 3) := dk_182 1 79 (dk_at dksJ3_length_0 6 rfl rfl)
theorem dJ3_length_9 : decode cJ3_length 9 = .ok (.ishr, 1) := dk_122 (dk_at dksJ3_length_0 9 rfl rfl)
theorem dJ3_length_10 : decode cJ3_length 10 = .ok (.ireturn, 1) := dk_172 (dk_at dksJ3_length_0 10 rfl rfl)
abbrev cJ3_coder : ByteArray := prog_30_method_152_code
def yJ3_coder : MethodName := ⟨RJ3, "coder", "()B"⟩
def dkwJ3_coder_0 : List UInt8 := [178, 0, 38, 153, 0, 10, 42, 180, 0, 15, 167, 0, 4, 4, 172]
abbrev dktJ3_coder_0 : List UInt8 := dkwJ3_coder_0 ++ []
theorem dksJ3_coder_0 : cJ3_coder.data.toList.drop 0 = dktJ3_coder_0 := by decide +kernel
theorem dJ3_coder_0 : decode cJ3_coder 0 = .ok (.getstatic 38, 3) := dk_178 0 38 (dk_at dksJ3_coder_0 0 rfl rfl)
theorem dJ3_coder_3 : decode cJ3_coder 3 = .ok (.ifCond .eq 10, 3) := dk_153 0 10 (dk_at dksJ3_coder_0 3 rfl rfl)
theorem dJ3_coder_6 : decode cJ3_coder 6 = .ok (.aload_n 0, 1) := dk_42 (dk_at dksJ3_coder_0 6 rfl rfl)
theorem dJ3_coder_7 : decode cJ3_coder 7 = .ok (.getfield 15, 3) := dk_180 0 15 (dk_at dksJ3_coder_0 7 rfl rfl)
theorem dJ3_coder_10 : decode cJ3_coder 10 = .ok (.goto 4, 3) := dk_167 0 4 (dk_at dksJ3_coder_0 10 rfl rfl)
theorem dJ3_coder_13 : decode cJ3_coder 13 = .ok (.iconst 1, 1) := dk_4 (dk_at dksJ3_coder_0 13 rfl rfl)
theorem dJ3_coder_14 : decode cJ3_coder 14 = .ok (.ireturn, 1) := dk_172 (dk_at dksJ3_coder_0 14 rfl rfl)
abbrev cJ3_charAt : ByteArray := prog_30_method_56_code
def yJ3_charAt : MethodName := ⟨RJ3, "charAt", "(I)C"⟩
def dkwJ3_charAt_1 : List UInt8 := [172]
abbrev dktJ3_charAt_1 : List UInt8 := dkwJ3_charAt_1 ++ []
def dkwJ3_charAt_0 : List UInt8 := [42, 182, 1, 236, 153, 0, 12, 42, 180, 0, 9, 27, 184, 1, 239, 172, 42, 180, 0, 9, 27, 184, 1, 242]
abbrev dktJ3_charAt_0 : List UInt8 := dkwJ3_charAt_0 ++ dktJ3_charAt_1
theorem dksJ3_charAt_0 : cJ3_charAt.data.toList.drop 0 = dktJ3_charAt_0 := by decide +kernel
theorem dksJ3_charAt_1 : cJ3_charAt.data.toList.drop 24 = dktJ3_charAt_1 := dk_seg dksJ3_charAt_0 24 rfl rfl
theorem dJ3_charAt_0 : decode cJ3_charAt 0 = .ok (.aload_n 0, 1) := dk_42 (dk_at dksJ3_charAt_0 0 rfl rfl)
theorem dJ3_charAt_1 : decode cJ3_charAt 1 = .ok (.invokevirtual 492, 3) := dk_182 1 236 (dk_at dksJ3_charAt_0 1 rfl rfl)
theorem dJ3_charAt_4 : decode cJ3_charAt 4 = .ok (.ifCond .eq 12, 3) := dk_153 0 12 (dk_at dksJ3_charAt_0 4 rfl rfl)
theorem dJ3_charAt_7 : decode cJ3_charAt 7 = .ok (.aload_n 0, 1) := dk_42 (dk_at dksJ3_charAt_0 7 rfl rfl)
theorem dJ3_charAt_8 : decode cJ3_charAt 8 = .ok (.getfield 9, 3) := dk_180 0 9 (dk_at dksJ3_charAt_0 8 rfl rfl)
theorem dJ3_charAt_11 : decode cJ3_charAt 11 = .ok (.iload_n 1, 1) := dk_27 (dk_at dksJ3_charAt_0 11 rfl rfl)
theorem dJ3_charAt_12 : decode cJ3_charAt 12 = .ok (.invokestatic 495, 3) := dk_184 1 239 (dk_at dksJ3_charAt_0 12 rfl rfl)
theorem dJ3_charAt_15 : decode cJ3_charAt 15 = .ok (.ireturn, 1) := dk_172 (dk_at dksJ3_charAt_0 15 rfl rfl)
theorem dJ3_charAt_16 : decode cJ3_charAt 16 = .ok (.aload_n 0, 1) := dk_42 (dk_at dksJ3_charAt_0 16 rfl rfl)
theorem dJ3_charAt_17 : decode cJ3_charAt 17 = .ok (.getfield 9, 3) := dk_180 0 9 (dk_at dksJ3_charAt_0 17 rfl rfl)
theorem dJ3_charAt_20 : decode cJ3_charAt 20 = .ok (.iload_n 1, 1) := dk_27 (dk_at dksJ3_charAt_0 20 rfl rfl)
theorem dJ3_charAt_21 : decode cJ3_charAt 21 = .ok (.invokestatic 498, 3) := dk_184 1 242 (dk_at dksJ3_charAt_0 21 rfl rfl)
theorem dJ3_charAt_24 : decode cJ3_charAt 24 = .ok (.ireturn, 1) := dk_172 (dk_at dksJ3_charAt_1 0 rfl rfl)
abbrev cJ3_isLatin1 : ByteArray := prog_30_method_154_code
def yJ3_isLatin1 : MethodName := ⟨RJ3, "isLatin1", "()Z"⟩
def dkwJ3_isLatin1_0 : List UInt8 := [178, 0, 38, 153, 0, 14, 42, 180, 0, 15, 154, 0, 7, 4, 167, 0, 4, 3, 172]
abbrev dktJ3_isLatin1_0 : List UInt8 := dkwJ3_isLatin1_0 ++ []
theorem dksJ3_isLatin1_0 : cJ3_isLatin1.data.toList.drop 0 = dktJ3_isLatin1_0 := by decide +kernel
theorem dJ3_isLatin1_0 : decode cJ3_isLatin1 0 = .ok (.getstatic 38, 3) := dk_178 0 38 (dk_at dksJ3_isLatin1_0 0 rfl rfl)
theorem dJ3_isLatin1_3 : decode cJ3_isLatin1 3 = .ok (.ifCond .eq 14, 3) := dk_153 0 14 (dk_at dksJ3_isLatin1_0 3 rfl rfl)
theorem dJ3_isLatin1_6 : decode cJ3_isLatin1 6 = .ok (.aload_n 0, 1) := dk_42 (dk_at dksJ3_isLatin1_0 6 rfl rfl)
theorem dJ3_isLatin1_7 : decode cJ3_isLatin1 7 = .ok (.getfield 15, 3) := dk_180 0 15 (dk_at dksJ3_isLatin1_0 7 rfl rfl)
theorem dJ3_isLatin1_10 : decode cJ3_isLatin1 10 = .ok (.ifCond .ne 7, 3) := dk_154 0 7 (dk_at dksJ3_isLatin1_0 10 rfl rfl)
theorem dJ3_isLatin1_13 : decode cJ3_isLatin1 13 = .ok (.iconst 1, 1) := dk_4 (dk_at dksJ3_isLatin1_0 13 rfl rfl)
theorem dJ3_isLatin1_14 : decode cJ3_isLatin1 14 = .ok (.goto 4, 3) := dk_167 0 4 (dk_at dksJ3_isLatin1_0 14 rfl rfl)
theorem dJ3_isLatin1_17 : decode cJ3_isLatin1 17 = .ok (.iconst 0, 1) := dk_3 (dk_at dksJ3_isLatin1_0 17 rfl rfl)
theorem dJ3_isLatin1_18 : decode cJ3_isLatin1 18 = .ok (.ireturn, 1) := dk_172 (dk_at dksJ3_isLatin1_0 18 rfl rfl)
abbrev cJ3_checkIndex : ByteArray := prog_30_method_155_code
def yJ3_checkIndex : MethodName := ⟨RJ3, "checkIndex", "(II)V"⟩
def dkwJ3_checkIndex_0 : List UInt8 := [26, 27, 178, 4, 29, 184, 4, 35, 87, 177]
abbrev dktJ3_checkIndex_0 : List UInt8 := dkwJ3_checkIndex_0 ++ []
theorem dksJ3_checkIndex_0 : cJ3_checkIndex.data.toList.drop 0 = dktJ3_checkIndex_0 := by decide +kernel
theorem dJ3_checkIndex_0 : decode cJ3_checkIndex 0 = .ok (.iload_n 0, 1) := dk_26 (dk_at dksJ3_checkIndex_0 0 rfl rfl)
theorem dJ3_checkIndex_1 : decode cJ3_checkIndex 1 = .ok (.iload_n 1, 1) := dk_27 (dk_at dksJ3_checkIndex_0 1 rfl rfl)
theorem dJ3_checkIndex_2 : decode cJ3_checkIndex 2 = .ok (.getstatic 1053, 3) := dk_178 4 29 (dk_at dksJ3_checkIndex_0 2 rfl rfl)
theorem dJ3_checkIndex_5 : decode cJ3_checkIndex 5 = .ok (.invokestatic 1059, 3) := dk_184 4 35 (dk_at dksJ3_checkIndex_0 5 rfl rfl)
theorem dJ3_checkIndex_8 : decode cJ3_checkIndex 8 = .ok (.pop, 1) := dk_87 (dk_at dksJ3_checkIndex_0 8 rfl rfl)
theorem dJ3_checkIndex_9 : decode cJ3_checkIndex 9 = .ok (.return_, 1) := dk_177 (dk_at dksJ3_checkIndex_0 9 rfl rfl)
theorem q154 : (Jvm.Cond.initialized "java/lang/String") ∈ lw_all := lw_g (lw_at lw_m1 10 rfl) rfl
theorem q461 : (Jvm.Cond.instanceMethod ({ cls := "java/lang/String", name := "length", desc := "()I" } : Jvm.MethodName)) ∈ lw_all := lw_g (lw_at lw_m2 77 rfl) rfl
theorem q462 : (Jvm.Cond.selects "java/lang/String" ({ cls := "java/lang/String", name := "length", desc := "()I" } : Jvm.MethodName) ({ cls := "java/lang/String", name := "length", desc := "()I" } : Jvm.MethodName)) ∈ lw_all := lw_g (lw_at lw_m2 78 rfl) rfl
theorem q463 : (Jvm.Cond.code ({ cls := "java/lang/String", name := "length", desc := "()I" } : Jvm.MethodName) prog_30_method_54_code (1 : Nat) (Option.some Jvm.ClassFile.FieldType.int)) ∈ lw_all := lw_g (lw_at lw_m2 79 rfl) rfl
theorem q464 : (Jvm.Cond.methodLink "java/lang/String" (335 : Nat) ({ cls := "java/lang/String", name := "coder", desc := "()B" } : Jvm.MethodName)) ∈ lw_all := lw_g (lw_at lw_m2 80 rfl) rfl
theorem q465 : (Jvm.Cond.instanceMethod ({ cls := "java/lang/String", name := "coder", desc := "()B" } : Jvm.MethodName)) ∈ lw_all := lw_g (lw_at lw_m2 81 rfl) rfl
theorem q466 : (Jvm.Cond.selects "java/lang/String" ({ cls := "java/lang/String", name := "coder", desc := "()B" } : Jvm.MethodName) ({ cls := "java/lang/String", name := "coder", desc := "()B" } : Jvm.MethodName)) ∈ lw_all := lw_g (lw_at lw_m2 82 rfl) rfl
theorem q467 : (Jvm.Cond.code ({ cls := "java/lang/String", name := "coder", desc := "()B" } : Jvm.MethodName) prog_30_method_152_code (1 : Nat) (Option.some Jvm.ClassFile.FieldType.byte)) ∈ lw_all := lw_g (lw_at lw_m2 83 rfl) rfl
theorem q468 : (Jvm.Cond.fieldLink "java/lang/String" (38 : Nat) "java/lang/String" "COMPACT_STRINGS" "Z") ∈ lw_all := lw_g (lw_at lw_m2 84 rfl) rfl
theorem q469 : (Jvm.Cond.laysStatic "java/lang/String" "COMPACT_STRINGS" "Z") ∈ lw_tbl := lw_at lw_m2 85 rfl
theorem q471 : (Jvm.Cond.instanceMethod ({ cls := "java/lang/String", name := "charAt", desc := "(I)C" } : Jvm.MethodName)) ∈ lw_all := lw_g (lw_at lw_m2 87 rfl) rfl
theorem q472 : (Jvm.Cond.selects "java/lang/String" ({ cls := "java/lang/String", name := "charAt", desc := "(I)C" } : Jvm.MethodName) ({ cls := "java/lang/String", name := "charAt", desc := "(I)C" } : Jvm.MethodName)) ∈ lw_all := lw_g (lw_at lw_m2 88 rfl) rfl
theorem q473 : (Jvm.Cond.code ({ cls := "java/lang/String", name := "charAt", desc := "(I)C" } : Jvm.MethodName) prog_30_method_56_code (2 : Nat) (Option.some Jvm.ClassFile.FieldType.char)) ∈ lw_all := lw_g (lw_at lw_m2 89 rfl) rfl
theorem q474 : (Jvm.Cond.methodLink "java/lang/String" (492 : Nat) ({ cls := "java/lang/String", name := "isLatin1", desc := "()Z" } : Jvm.MethodName)) ∈ lw_all := lw_g (lw_at lw_m2 90 rfl) rfl
theorem q475 : (Jvm.Cond.instanceMethod ({ cls := "java/lang/String", name := "isLatin1", desc := "()Z" } : Jvm.MethodName)) ∈ lw_all := lw_g (lw_at lw_m2 91 rfl) rfl
theorem q476 : (Jvm.Cond.selects "java/lang/String" ({ cls := "java/lang/String", name := "isLatin1", desc := "()Z" } : Jvm.MethodName) ({ cls := "java/lang/String", name := "isLatin1", desc := "()Z" } : Jvm.MethodName)) ∈ lw_all := lw_g (lw_at lw_m2 92 rfl) rfl
theorem q477 : (Jvm.Cond.code ({ cls := "java/lang/String", name := "isLatin1", desc := "()Z" } : Jvm.MethodName) prog_30_method_154_code (1 : Nat) (Option.some Jvm.ClassFile.FieldType.boolean)) ∈ lw_all := lw_g (lw_at lw_m2 93 rfl) rfl
theorem q478 : (Jvm.Cond.methodLink "java/lang/String" (495 : Nat) ({ cls := "java/lang/StringLatin1", name := "charAt", desc := "([BI)C" } : Jvm.MethodName)) ∈ lw_all := lw_g (lw_at lw_m2 94 rfl) rfl
theorem q482 : (Jvm.Cond.static ({ cls := "java/lang/String", name := "checkIndex", desc := "(II)V" } : Jvm.MethodName)) ∈ lw_all := lw_g (lw_at lw_m2 98 rfl) rfl
theorem q483 : (Jvm.Cond.code ({ cls := "java/lang/String", name := "checkIndex", desc := "(II)V" } : Jvm.MethodName) prog_30_method_155_code (2 : Nat) (Option.none : Option Jvm.ClassFile.FieldType)) ∈ lw_all := lw_g (lw_at lw_m2 99 rfl) rfl
theorem q484 : (Jvm.Cond.fieldLink "java/lang/String" (1053 : Nat) "jdk/internal/util/Preconditions" "SIOOBE_FORMATTER" "Ljava/util/function/BiFunction;") ∈ lw_all := lw_g (lw_at lw_m2 100 rfl) rfl
theorem q486 : (Jvm.Cond.methodLink "java/lang/String" (1059 : Nat) ({ cls := "jdk/internal/util/Preconditions", name := "checkIndex", desc := "(IILjava/util/function/BiFunction;)I" } : Jvm.MethodName)) ∈ lw_all := lw_g (lw_at lw_m2 102 rfl) rfl
theorem q489 : (Jvm.Cond.methodLink "java/lang/String" (498 : Nat) ({ cls := "java/lang/StringUTF16", name := "charAt", desc := "([BI)C" } : Jvm.MethodName)) ∈ lw_all := lw_g (lw_at lw_m2 105 rfl) rfl
theorem q2365 : (Jvm.Cond.castable "java/lang/String" "java/lang/Object") ∈ lw_tbl := lw_at lw_m10 61 rfl
theorem q2404 : (Jvm.Cond.fieldLink "java/lang/String" (9 : Nat) "java/lang/String" "value" "[B") ∈ lw_all := lw_g (lw_at lw_m10 100 rfl) rfl
theorem q2405 : (Jvm.Cond.fieldLink "java/lang/String" (15 : Nat) "java/lang/String" "coder" "B") ∈ lw_all := lw_g (lw_at lw_m10 101 rfl) rfl

/-! java/lang/StringLatin1 -/
set_option maxRecDepth 100000
def RJ4 : String := "java/lang/StringLatin1"
abbrev cJ4_charAt : ByteArray := prog_31_method_2_code
def yJ4_charAt : MethodName := ⟨RJ4, "charAt", "([BI)C"⟩
def dkwJ4_charAt_0 : List UInt8 := [27, 42, 190, 184, 0, 9, 42, 27, 51, 17, 0, 255, 126, 146, 172]
abbrev dktJ4_charAt_0 : List UInt8 := dkwJ4_charAt_0 ++ []
theorem dksJ4_charAt_0 : cJ4_charAt.data.toList.drop 0 = dktJ4_charAt_0 := by decide +kernel
theorem dJ4_charAt_0 : decode cJ4_charAt 0 = .ok (.iload_n 1, 1) := dk_27 (dk_at dksJ4_charAt_0 0 rfl rfl)
theorem dJ4_charAt_1 : decode cJ4_charAt 1 = .ok (.aload_n 0, 1) := dk_42 (dk_at dksJ4_charAt_0 1 rfl rfl)
theorem dJ4_charAt_2 : decode cJ4_charAt 2 = .ok (.arraylength, 1) := dk_190 (dk_at dksJ4_charAt_0 2 rfl rfl)
theorem dJ4_charAt_3 : decode cJ4_charAt 3 = .ok (.invokestatic 9, 3) := dk_184 0 9 (dk_at dksJ4_charAt_0 3 rfl rfl)
theorem dJ4_charAt_6 : decode cJ4_charAt 6 = .ok (.aload_n 0, 1) := dk_42 (dk_at dksJ4_charAt_0 6 rfl rfl)
theorem dJ4_charAt_7 : decode cJ4_charAt 7 = .ok (.iload_n 1, 1) := dk_27 (dk_at dksJ4_charAt_0 7 rfl rfl)
theorem dJ4_charAt_8 : decode cJ4_charAt 8 = .ok (.baload, 1) := dk_51 (dk_at dksJ4_charAt_0 8 rfl rfl)
theorem dJ4_charAt_9 : decode cJ4_charAt 9 = .ok (.sipush 255, 3) := dk_17 0 255 (dk_at dksJ4_charAt_0 9 rfl rfl)
theorem dJ4_charAt_12 : decode cJ4_charAt 12 = .ok (.iand, 1) := dk_126 (dk_at dksJ4_charAt_0 12 rfl rfl)
theorem dJ4_charAt_13 : decode cJ4_charAt 13 = .ok (.i2c, 1) := dk_146 (dk_at dksJ4_charAt_0 13 rfl rfl)
theorem dJ4_charAt_14 : decode cJ4_charAt 14 = .ok (.ireturn, 1) := dk_172 (dk_at dksJ4_charAt_0 14 rfl rfl)
theorem q155 : (Jvm.Cond.initialized "java/lang/StringLatin1") ∈ lw_all := lw_g (lw_at lw_m1 11 rfl) rfl
theorem q479 : (Jvm.Cond.static ({ cls := "java/lang/StringLatin1", name := "charAt", desc := "([BI)C" } : Jvm.MethodName)) ∈ lw_all := lw_g (lw_at lw_m2 95 rfl) rfl
theorem q480 : (Jvm.Cond.code ({ cls := "java/lang/StringLatin1", name := "charAt", desc := "([BI)C" } : Jvm.MethodName) prog_31_method_2_code (2 : Nat) (Option.some Jvm.ClassFile.FieldType.char)) ∈ lw_all := lw_g (lw_at lw_m2 96 rfl) rfl
theorem q481 : (Jvm.Cond.methodLink "java/lang/StringLatin1" (9 : Nat) ({ cls := "java/lang/String", name := "checkIndex", desc := "(II)V" } : Jvm.MethodName)) ∈ lw_all := lw_g (lw_at lw_m2 97 rfl) rfl

/-! jdk/internal/util/Preconditions -/
set_option maxRecDepth 100000
def RJ5 : String := "jdk/internal/util/Preconditions"
abbrev cJ5_checkIndex : ByteArray := prog_45_method_11_code
def yJ5_checkIndex : MethodName := ⟨RJ5, "checkIndex", "(IILjava/util/function/BiFunction;)I"⟩
def dkwJ5_checkIndex_0 : List UInt8 := [26, 155, 0, 8, 26, 27, 161, 0, 10, 44, 26, 27, 184, 0, 95, 191, 26, 172]
abbrev dktJ5_checkIndex_0 : List UInt8 := dkwJ5_checkIndex_0 ++ []
theorem dksJ5_checkIndex_0 : cJ5_checkIndex.data.toList.drop 0 = dktJ5_checkIndex_0 := by decide +kernel
theorem dJ5_checkIndex_0 : decode cJ5_checkIndex 0 = .ok (.iload_n 0, 1) := dk_26 (dk_at dksJ5_checkIndex_0 0 rfl rfl)
theorem dJ5_checkIndex_1 : decode cJ5_checkIndex 1 = .ok (.ifCond .lt 8, 3) := dk_155 0 8 (dk_at dksJ5_checkIndex_0 1 rfl rfl)
theorem dJ5_checkIndex_4 : decode cJ5_checkIndex 4 = .ok (.iload_n 0, 1) := dk_26 (dk_at dksJ5_checkIndex_0 4 rfl rfl)
theorem dJ5_checkIndex_5 : decode cJ5_checkIndex 5 = .ok (.iload_n 1, 1) := dk_27 (dk_at dksJ5_checkIndex_0 5 rfl rfl)
theorem dJ5_checkIndex_6 : decode cJ5_checkIndex 6 = .ok (.if_icmp .lt 10, 3) := dk_161 0 10 (dk_at dksJ5_checkIndex_0 6 rfl rfl)
theorem dJ5_checkIndex_9 : decode cJ5_checkIndex 9 = .ok (.aload_n 2, 1) := dk_44 (dk_at dksJ5_checkIndex_0 9 rfl rfl)
theorem dJ5_checkIndex_10 : decode cJ5_checkIndex 10 = .ok (.iload_n 0, 1) := dk_26 (dk_at dksJ5_checkIndex_0 10 rfl rfl)
theorem dJ5_checkIndex_11 : decode cJ5_checkIndex 11 = .ok (.iload_n 1, 1) := dk_27 (dk_at dksJ5_checkIndex_0 11 rfl rfl)
theorem dJ5_checkIndex_12 : decode cJ5_checkIndex 12 = .ok (.invokestatic 95, 3) := dk_184 0 95 (dk_at dksJ5_checkIndex_0 12 rfl rfl)
theorem dJ5_checkIndex_15 : decode cJ5_checkIndex 15 = .ok (.athrow, 1) := dk_191 (dk_at dksJ5_checkIndex_0 15 rfl rfl)
theorem dJ5_checkIndex_16 : decode cJ5_checkIndex 16 = .ok (.iload_n 0, 1) := dk_26 (dk_at dksJ5_checkIndex_0 16 rfl rfl)
theorem dJ5_checkIndex_17 : decode cJ5_checkIndex 17 = .ok (.ireturn, 1) := dk_172 (dk_at dksJ5_checkIndex_0 17 rfl rfl)
theorem q156 : (Jvm.Cond.initialized "jdk/internal/util/Preconditions") ∈ lw_all := lw_g (lw_at lw_m1 12 rfl) rfl
theorem q485 : (Jvm.Cond.laysStatic "jdk/internal/util/Preconditions" "SIOOBE_FORMATTER" "Ljava/util/function/BiFunction;") ∈ lw_tbl := lw_at lw_m2 101 rfl
theorem q487 : (Jvm.Cond.static ({ cls := "jdk/internal/util/Preconditions", name := "checkIndex", desc := "(IILjava/util/function/BiFunction;)I" } : Jvm.MethodName)) ∈ lw_all := lw_g (lw_at lw_m2 103 rfl) rfl
theorem q488 : (Jvm.Cond.code ({ cls := "jdk/internal/util/Preconditions", name := "checkIndex", desc := "(IILjava/util/function/BiFunction;)I" } : Jvm.MethodName) prog_45_method_11_code (3 : Nat) (Option.some Jvm.ClassFile.FieldType.int)) ∈ lw_all := lw_g (lw_at lw_m2 104 rfl) rfl

/-! java/lang/StringUTF16 -/
set_option maxRecDepth 100000
def RJ6 : String := "java/lang/StringUTF16"
abbrev cJ6_charAt : ByteArray := prog_32_method_83_code
def yJ6_charAt : MethodName := ⟨RJ6, "charAt", "([BI)C"⟩
def dkwJ6_charAt_0 : List UInt8 := [27, 42, 184, 0, 67, 42, 27, 184, 0, 71, 172]
abbrev dktJ6_charAt_0 : List UInt8 := dkwJ6_charAt_0 ++ []
theorem dksJ6_charAt_0 : cJ6_charAt.data.toList.drop 0 = dktJ6_charAt_0 := by decide +kernel
theorem dJ6_charAt_0 : decode cJ6_charAt 0 = .ok (.iload_n 1, 1) := dk_27 (dk_at dksJ6_charAt_0 0 rfl rfl)
theorem dJ6_charAt_1 : decode cJ6_charAt 1 = .ok (.aload_n 0, 1) := dk_42 (dk_at dksJ6_charAt_0 1 rfl rfl)
theorem dJ6_charAt_2 : decode cJ6_charAt 2 = .ok (.invokestatic 67, 3) := dk_184 0 67 (dk_at dksJ6_charAt_0 2 rfl rfl)
theorem dJ6_charAt_5 : decode cJ6_charAt 5 = .ok (.aload_n 0, 1) := dk_42 (dk_at dksJ6_charAt_0 5 rfl rfl)
theorem dJ6_charAt_6 : decode cJ6_charAt 6 = .ok (.iload_n 1, 1) := dk_27 (dk_at dksJ6_charAt_0 6 rfl rfl)
theorem dJ6_charAt_7 : decode cJ6_charAt 7 = .ok (.invokestatic 71, 3) := dk_184 0 71 (dk_at dksJ6_charAt_0 7 rfl rfl)
theorem dJ6_charAt_10 : decode cJ6_charAt 10 = .ok (.ireturn, 1) := dk_172 (dk_at dksJ6_charAt_0 10 rfl rfl)
abbrev cJ6_checkIndex : ByteArray := prog_32_method_91_code
def yJ6_checkIndex : MethodName := ⟨RJ6, "checkIndex", "(I[B)V"⟩
def dkwJ6_checkIndex_0 : List UInt8 := [26, 43, 184, 0, 48, 184, 1, 158, 177]
abbrev dktJ6_checkIndex_0 : List UInt8 := dkwJ6_checkIndex_0 ++ []
theorem dksJ6_checkIndex_0 : cJ6_checkIndex.data.toList.drop 0 = dktJ6_checkIndex_0 := by decide +kernel
theorem dJ6_checkIndex_0 : decode cJ6_checkIndex 0 = .ok (.iload_n 0, 1) := dk_26 (dk_at dksJ6_checkIndex_0 0 rfl rfl)
theorem dJ6_checkIndex_1 : decode cJ6_checkIndex 1 = .ok (.aload_n 1, 1) := dk_43 (dk_at dksJ6_checkIndex_0 1 rfl rfl)
theorem dJ6_checkIndex_2 : decode cJ6_checkIndex 2 = .ok (.invokestatic 48, 3) := dk_184 0 48 (dk_at dksJ6_checkIndex_0 2 rfl rfl)
theorem dJ6_checkIndex_5 : decode cJ6_checkIndex 5 = .ok (.invokestatic 414, 3) := dk_184 1 158 (dk_at dksJ6_checkIndex_0 5 rfl rfl)
theorem dJ6_checkIndex_8 : decode cJ6_checkIndex 8 = .ok (.return_, 1) := dk_177 (dk_at dksJ6_checkIndex_0 8 rfl rfl)
abbrev cJ6_length : ByteArray := prog_32_method_6_code
def yJ6_length : MethodName := ⟨RJ6, "length", "([B)I"⟩
def dkwJ6_length_0 : List UInt8 := [42, 190, 4, 122, 172]
abbrev dktJ6_length_0 : List UInt8 := dkwJ6_length_0 ++ []
theorem dksJ6_length_0 : cJ6_length.data.toList.drop 0 = dktJ6_length_0 := by decide +kernel
theorem dJ6_length_0 : decode cJ6_length 0 = .ok (.aload_n 0, 1) := dk_42 (dk_at dksJ6_length_0 0 rfl rfl)
theorem dJ6_length_1 : decode cJ6_length 1 = .ok (.arraylength, 1) := dk_190 (dk_at dksJ6_length_0 1 rfl rfl)
theorem dJ6_length_2 : decode cJ6_length 2 = .ok (.iconst 1, 1) := dk_4 (dk_at dksJ6_length_0 2 rfl rfl)
theorem dJ6_length_3 : decode cJ6_length 3 = .ok (.ishr, 1) := dk_122 (dk_at dksJ6_length_0 3 rfl rfl)
theorem dJ6_length_4 : decode cJ6_length 4 = .ok (.ireturn, 1) := dk_172 (dk_at dksJ6_length_0 4 rfl rfl)
abbrev cJ6_getChar : ByteArray := prog_32_method_5_code
def yJ6_getChar : MethodName := ⟨RJ6, "getChar", "([BI)C"⟩
def dkwJ6_getChar_2 : List UInt8 := [51, 17, 0, 255, 126, 178, 0, 63, 120, 128, 146, 172]
abbrev dktJ6_getChar_2 : List UInt8 := dkwJ6_getChar_2 ++ []
def dkwJ6_getChar_1 : List UInt8 := [183, 0, 56, 191, 27, 4, 120, 60, 42, 27, 132, 1, 1, 51, 17, 0, 255, 126, 178, 0, 59, 120, 42, 27]
abbrev dktJ6_getChar_1 : List UInt8 := dkwJ6_getChar_1 ++ dktJ6_getChar_2
def dkwJ6_getChar_0 : List UInt8 := [178, 0, 44, 154, 0, 25, 27, 155, 0, 11, 27, 42, 184, 0, 48, 161, 0, 13, 187, 0, 52, 89, 18, 54]
abbrev dktJ6_getChar_0 : List UInt8 := dkwJ6_getChar_0 ++ dktJ6_getChar_1
theorem dksJ6_getChar_0 : cJ6_getChar.data.toList.drop 0 = dktJ6_getChar_0 := by decide +kernel
theorem dksJ6_getChar_1 : cJ6_getChar.data.toList.drop 24 = dktJ6_getChar_1 := dk_seg dksJ6_getChar_0 24 rfl rfl
theorem dksJ6_getChar_2 : cJ6_getChar.data.toList.drop 48 = dktJ6_getChar_2 := dk_seg dksJ6_getChar_1 24 rfl rfl
theorem dJ6_getChar_0 : decode cJ6_getChar 0 = .ok (.getstatic 44, 3) := dk_178 0 44 (dk_at dksJ6_getChar_0 0 rfl rfl)
theorem dJ6_getChar_3 : decode cJ6_getChar 3 = .ok (.ifCond .ne 25, 3) := dk_154 0 25 (dk_at dksJ6_getChar_0 3 rfl rfl)
theorem dJ6_getChar_6 : decode cJ6_getChar 6 = .ok (.iload_n 1, 1) := dk_27 (dk_at dksJ6_getChar_0 6 rfl rfl)
theorem dJ6_getChar_7 : decode cJ6_getChar 7 = .ok (.ifCond .lt 11, 3) := dk_155 0 11 (dk_at dksJ6_getChar_0 7 rfl rfl)
theorem dJ6_getChar_10 : decode cJ6_getChar 10 = .ok (.iload_n 1, 1) := dk_27 (dk_at dksJ6_getChar_0 10 rfl rfl)
theorem dJ6_getChar_11 : decode cJ6_getChar 11 = .ok (.aload_n 0, 1) := dk_42 (dk_at dksJ6_getChar_0 11 rfl rfl)
theorem dJ6_getChar_12 : decode cJ6_getChar 12 = .ok (.invokestatic 48, 3) := dk_184 0 48 (dk_at dksJ6_getChar_0 12 rfl rfl)
theorem dJ6_getChar_15 : decode cJ6_getChar 15 = .ok (.if_icmp .lt 13, 3) := dk_161 0 13 (dk_at dksJ6_getChar_0 15 rfl rfl)
theorem dJ6_getChar_18 : decode cJ6_getChar 18 = .ok (.new 52, 3) := dk_187 0 52 (dk_at dksJ6_getChar_0 18 rfl rfl)
theorem dJ6_getChar_21 : decode cJ6_getChar 21 = .ok (.dup, 1) := dk_89 (dk_at dksJ6_getChar_0 21 rfl rfl)
theorem dJ6_getChar_22 : decode cJ6_getChar 22 = .ok (.ldc 54, 2) := dk_18 54 (dk_at dksJ6_getChar_0 22 rfl rfl)
theorem dJ6_getChar_24 : decode cJ6_getChar 24 = .ok (.invokespecial 56, 3) := dk_183 0 56 (dk_at dksJ6_getChar_1 0 rfl rfl)
theorem dJ6_getChar_27 : decode cJ6_getChar 27 = .ok (.athrow, 1) := dk_191 (dk_at dksJ6_getChar_1 3 rfl rfl)
theorem dJ6_getChar_28 : decode cJ6_getChar 28 = .ok (.iload_n 1, 1) := dk_27 (dk_at dksJ6_getChar_1 4 rfl rfl)
theorem dJ6_getChar_29 : decode cJ6_getChar 29 = .ok (.iconst 1, 1) := dk_4 (dk_at dksJ6_getChar_1 5 rfl rfl)
theorem dJ6_getChar_30 : decode cJ6_getChar 30 = .ok (.ishl, 1) := dk_120 (dk_at dksJ6_getChar_1 6 rfl rfl)
theorem dJ6_getChar_31 : decode cJ6_getChar 31 = .ok (.istore_n 1, 1) := dk_60 (dk_at dksJ6_getChar_1 7 rfl rfl)
theorem dJ6_getChar_32 : decode cJ6_getChar 32 = .ok (.aload_n 0, 1) := dk_42 (dk_at dksJ6_getChar_1 8 rfl rfl)
theorem dJ6_getChar_33 : decode cJ6_getChar 33 = .ok (.iload_n 1, 1) := dk_27 (dk_at dksJ6_getChar_1 9 rfl rfl)
theorem dJ6_getChar_34 : decode cJ6_getChar 34 = .ok (.iinc 1 1, 3) := dk_132 1 1 (dk_at dksJ6_getChar_1 10 rfl rfl)
theorem dJ6_getChar_37 : decode cJ6_getChar 37 = .ok (.baload, 1) := dk_51 (dk_at dksJ6_getChar_1 13 rfl rfl)
theorem dJ6_getChar_38 : decode cJ6_getChar 38 = .ok (.sipush 255, 3) := dk_17 0 255 (dk_at dksJ6_getChar_1 14 rfl rfl)
theorem dJ6_getChar_41 : decode cJ6_getChar 41 = .ok (.iand, 1) := dk_126 (dk_at dksJ6_getChar_1 17 rfl rfl)
theorem dJ6_getChar_42 : decode cJ6_getChar 42 = .ok (.getstatic 59, 3) := dk_178 0 59 (dk_at dksJ6_getChar_1 18 rfl rfl)
theorem dJ6_getChar_45 : decode cJ6_getChar 45 = .ok (.ishl, 1) := dk_120 (dk_at dksJ6_getChar_1 21 rfl rfl)
theorem dJ6_getChar_46 : decode cJ6_getChar 46 = .ok (.aload_n 0, 1) := dk_42 (dk_at dksJ6_getChar_1 22 rfl rfl)
theorem dJ6_getChar_47 : decode cJ6_getChar 47 = .ok (.iload_n 1, 1) := dk_27 (dk_at dksJ6_getChar_1 23 rfl rfl)
theorem dJ6_getChar_48 : decode cJ6_getChar 48 = .ok (.baload, 1) := dk_51 (dk_at dksJ6_getChar_2 0 rfl rfl)
theorem dJ6_getChar_49 : decode cJ6_getChar 49 = .ok (.sipush 255, 3) := dk_17 0 255 (dk_at dksJ6_getChar_2 1 rfl rfl)
theorem dJ6_getChar_52 : decode cJ6_getChar 52 = .ok (.iand, 1) := dk_126 (dk_at dksJ6_getChar_2 4 rfl rfl)
theorem dJ6_getChar_53 : decode cJ6_getChar 53 = .ok (.getstatic 63, 3) := dk_178 0 63 (dk_at dksJ6_getChar_2 5 rfl rfl)
theorem dJ6_getChar_56 : decode cJ6_getChar 56 = .ok (.ishl, 1) := dk_120 (dk_at dksJ6_getChar_2 8 rfl rfl)
theorem dJ6_getChar_57 : decode cJ6_getChar 57 = .ok (.ior, 1) := dk_128 (dk_at dksJ6_getChar_2 9 rfl rfl)
theorem dJ6_getChar_58 : decode cJ6_getChar 58 = .ok (.i2c, 1) := dk_146 (dk_at dksJ6_getChar_2 10 rfl rfl)
theorem dJ6_getChar_59 : decode cJ6_getChar 59 = .ok (.ireturn, 1) := dk_172 (dk_at dksJ6_getChar_2 11 rfl rfl)
theorem q157 : (Jvm.Cond.initialized "java/lang/StringUTF16") ∈ lw_all := lw_g (lw_at lw_m1 13 rfl) rfl
theorem q490 : (Jvm.Cond.static ({ cls := "java/lang/StringUTF16", name := "charAt", desc := "([BI)C" } : Jvm.MethodName)) ∈ lw_all := lw_g (lw_at lw_m2 106 rfl) rfl
theorem q491 : (Jvm.Cond.code ({ cls := "java/lang/StringUTF16", name := "charAt", desc := "([BI)C" } : Jvm.MethodName) prog_32_method_83_code (2 : Nat) (Option.some Jvm.ClassFile.FieldType.char)) ∈ lw_all := lw_g (lw_at lw_m2 107 rfl) rfl
theorem q492 : (Jvm.Cond.methodLink "java/lang/StringUTF16" (67 : Nat) ({ cls := "java/lang/StringUTF16", name := "checkIndex", desc := "(I[B)V" } : Jvm.MethodName)) ∈ lw_all := lw_g (lw_at lw_m2 108 rfl) rfl
theorem q493 : (Jvm.Cond.static ({ cls := "java/lang/StringUTF16", name := "checkIndex", desc := "(I[B)V" } : Jvm.MethodName)) ∈ lw_all := lw_g (lw_at lw_m2 109 rfl) rfl
theorem q494 : (Jvm.Cond.code ({ cls := "java/lang/StringUTF16", name := "checkIndex", desc := "(I[B)V" } : Jvm.MethodName) prog_32_method_91_code (2 : Nat) (Option.none : Option Jvm.ClassFile.FieldType)) ∈ lw_all := lw_g (lw_at lw_m2 110 rfl) rfl
theorem q495 : (Jvm.Cond.methodLink "java/lang/StringUTF16" (48 : Nat) ({ cls := "java/lang/StringUTF16", name := "length", desc := "([B)I" } : Jvm.MethodName)) ∈ lw_all := lw_g (lw_at lw_m2 111 rfl) rfl
theorem q496 : (Jvm.Cond.static ({ cls := "java/lang/StringUTF16", name := "length", desc := "([B)I" } : Jvm.MethodName)) ∈ lw_all := lw_g (lw_at lw_m2 112 rfl) rfl
theorem q497 : (Jvm.Cond.code ({ cls := "java/lang/StringUTF16", name := "length", desc := "([B)I" } : Jvm.MethodName) prog_32_method_6_code (1 : Nat) (Option.some Jvm.ClassFile.FieldType.int)) ∈ lw_all := lw_g (lw_at lw_m2 113 rfl) rfl
theorem q498 : (Jvm.Cond.methodLink "java/lang/StringUTF16" (414 : Nat) ({ cls := "java/lang/String", name := "checkIndex", desc := "(II)V" } : Jvm.MethodName)) ∈ lw_all := lw_g (lw_at lw_m2 114 rfl) rfl
theorem q499 : (Jvm.Cond.methodLink "java/lang/StringUTF16" (71 : Nat) ({ cls := "java/lang/StringUTF16", name := "getChar", desc := "([BI)C" } : Jvm.MethodName)) ∈ lw_all := lw_g (lw_at lw_m2 115 rfl) rfl
theorem q500 : (Jvm.Cond.static ({ cls := "java/lang/StringUTF16", name := "getChar", desc := "([BI)C" } : Jvm.MethodName)) ∈ lw_all := lw_g (lw_at lw_m2 116 rfl) rfl
theorem q501 : (Jvm.Cond.code ({ cls := "java/lang/StringUTF16", name := "getChar", desc := "([BI)C" } : Jvm.MethodName) prog_32_method_5_code (2 : Nat) (Option.some Jvm.ClassFile.FieldType.char)) ∈ lw_all := lw_g (lw_at lw_m2 117 rfl) rfl
theorem q502 : (Jvm.Cond.fieldLink "java/lang/StringUTF16" (44 : Nat) "java/lang/StringUTF16" "$assertionsDisabled" "Z") ∈ lw_all := lw_g (lw_at lw_m2 118 rfl) rfl
theorem q503 : (Jvm.Cond.laysStatic "java/lang/StringUTF16" "$assertionsDisabled" "Z") ∈ lw_tbl := lw_at lw_m2 119 rfl
theorem q504 : (Jvm.Cond.fieldLink "java/lang/StringUTF16" (59 : Nat) "java/lang/StringUTF16" "HI_BYTE_SHIFT" "I") ∈ lw_all := lw_g (lw_at lw_m2 120 rfl) rfl
theorem q505 : (Jvm.Cond.laysStatic "java/lang/StringUTF16" "HI_BYTE_SHIFT" "I") ∈ lw_tbl := lw_at lw_m2 121 rfl
theorem q506 : (Jvm.Cond.fieldLink "java/lang/StringUTF16" (63 : Nat) "java/lang/StringUTF16" "LO_BYTE_SHIFT" "I") ∈ lw_all := lw_g (lw_at lw_m2 122 rfl) rfl
theorem q507 : (Jvm.Cond.laysStatic "java/lang/StringUTF16" "LO_BYTE_SHIFT" "I") ∈ lw_tbl := lw_at lw_m2 123 rfl

/-! java/lang/Throwable -/
set_option maxRecDepth 100000
def RJ7 : String := "java/lang/Throwable"
def TJ7 : u_T := fun k => match k with
  | 0 => ("java/lang/Throwable", "cause", "Ljava/lang/Throwable;", false)
  | 1 => ("java/lang/Throwable", "stackTrace", "[Ljava/lang/StackTraceElement;", false)
  | 2 => ("java/lang/Throwable", "suppressedExceptions", "Ljava/util/List;", false)
  | 3 => ("java/lang/Throwable", "detailMessage", "Ljava/lang/String;", false)
  | _ => ("java/lang/Throwable", "backtrace", "Ljava/lang/Object;", false)
def tyJ7 : Nat → FieldType := fun k => match k with
  | 0 => .object "java/lang/Throwable"
  | 1 => .array (.object "java/lang/StackTraceElement")
  | 2 => .object "java/util/List"
  | 3 => .object "java/lang/String"
  | _ => .object "java/lang/Object"
abbrev wsJ70 : List Cond := u_ws RJ7 TJ7 5
theorem nmJ7 : ∀ a, a < 5 → ∀ b, b < 5 → a ≠ b → (TJ7 a).2.1 ≠ (TJ7 b).2.1 := by decide +kernel
theorem tyJ7_ok : ∀ k, k < 5 → parseFieldDescriptor (TJ7 k).2.2.1 = some (tyJ7 k) := by decide +kernel
abbrev cJ7_init : ByteArray := prog_34_method_1_code
def yJ7_init : MethodName := ⟨RJ7, "<init>", "()V"⟩
def dkwJ7_init_1 : List UInt8 := [182, 0, 27, 87, 177]
abbrev dktJ7_init_1 : List UInt8 := dkwJ7_init_1 ++ []
def dkwJ7_init_0 : List UInt8 := [42, 183, 0, 1, 42, 42, 181, 0, 7, 42, 178, 0, 13, 181, 0, 17, 42, 178, 0, 20, 181, 0, 24, 42]
abbrev dktJ7_init_0 : List UInt8 := dkwJ7_init_0 ++ dktJ7_init_1
theorem dksJ7_init_0 : cJ7_init.data.toList.drop 0 = dktJ7_init_0 := by decide +kernel
theorem dksJ7_init_1 : cJ7_init.data.toList.drop 24 = dktJ7_init_1 := dk_seg dksJ7_init_0 24 rfl rfl
theorem dJ7_init_0 : decode cJ7_init 0 = .ok (.aload_n 0, 1) := dk_42 (dk_at dksJ7_init_0 0 rfl rfl)
theorem dJ7_init_1 : decode cJ7_init 1 = .ok (.invokespecial 1, 3) := dk_183 0 1 (dk_at dksJ7_init_0 1 rfl rfl)
theorem dJ7_init_4 : decode cJ7_init 4 = .ok (.aload_n 0, 1) := dk_42 (dk_at dksJ7_init_0 4 rfl rfl)
theorem dJ7_init_5 : decode cJ7_init 5 = .ok (.aload_n 0, 1) := dk_42 (dk_at dksJ7_init_0 5 rfl rfl)
theorem dJ7_init_6 : decode cJ7_init 6 = .ok (.putfield 7, 3) := dk_181 0 7 (dk_at dksJ7_init_0 6 rfl rfl)
theorem dJ7_init_9 : decode cJ7_init 9 = .ok (.aload_n 0, 1) := dk_42 (dk_at dksJ7_init_0 9 rfl rfl)
theorem dJ7_init_10 : decode cJ7_init 10 = .ok (.getstatic 13, 3) := dk_178 0 13 (dk_at dksJ7_init_0 10 rfl rfl)
theorem dJ7_init_13 : decode cJ7_init 13 = .ok (.putfield 17, 3) := dk_181 0 17 (dk_at dksJ7_init_0 13 rfl rfl)
theorem dJ7_init_16 : decode cJ7_init 16 = .ok (.aload_n 0, 1) := dk_42 (dk_at dksJ7_init_0 16 rfl rfl)
theorem dJ7_init_17 : decode cJ7_init 17 = .ok (.getstatic 20, 3) := dk_178 0 20 (dk_at dksJ7_init_0 17 rfl rfl)
theorem dJ7_init_20 : decode cJ7_init 20 = .ok (.putfield 24, 3) := dk_181 0 24 (dk_at dksJ7_init_0 20 rfl rfl)
theorem dJ7_init_23 : decode cJ7_init 23 = .ok (.aload_n 0, 1) := dk_42 (dk_at dksJ7_init_0 23 rfl rfl)
theorem dJ7_init_24 : decode cJ7_init 24 = .ok (.invokevirtual 27, 3) := dk_182 0 27 (dk_at dksJ7_init_1 0 rfl rfl)
theorem dJ7_init_27 : decode cJ7_init 27 = .ok (.pop, 1) := dk_87 (dk_at dksJ7_init_1 3 rfl rfl)
theorem dJ7_init_28 : decode cJ7_init 28 = .ok (.return_, 1) := dk_177 (dk_at dksJ7_init_1 4 rfl rfl)
theorem q158 : (Jvm.Cond.initialized "java/lang/Throwable") ∈ lw_all := lw_g (lw_at lw_m1 14 rfl) rfl
theorem q527 : (Jvm.Cond.declares ({ cls := "java/lang/Throwable", name := "<init>", desc := "()V" } : Jvm.MethodName)) ∈ lw_tbl := lw_at lw_m2 143 rfl
theorem q528 : (Jvm.Cond.declares ({ cls := "java/lang/Throwable", name := "<init>", desc := "(Ljava/lang/String;)V" } : Jvm.MethodName)) ∈ lw_tbl := lw_at lw_m2 144 rfl
theorem q532 : (Jvm.Cond.lays "java/lang/Throwable" "java/lang/Throwable" "cause" "Ljava/lang/Throwable;") ∈ lw_all := lw_g (lw_at lw_m2 148 rfl) rfl
theorem q534 : (Jvm.Cond.lays "java/lang/Throwable" "java/lang/Throwable" "stackTrace" "[Ljava/lang/StackTraceElement;") ∈ lw_all := lw_g (lw_at lw_m2 150 rfl) rfl
theorem q536 : (Jvm.Cond.lays "java/lang/Throwable" "java/lang/Throwable" "suppressedExceptions" "Ljava/util/List;") ∈ lw_all := lw_g (lw_at lw_m2 152 rfl) rfl
theorem q538 : (Jvm.Cond.lays "java/lang/Throwable" "java/lang/Throwable" "detailMessage" "Ljava/lang/String;") ∈ lw_all := lw_g (lw_at lw_m2 154 rfl) rfl
theorem q540 : (Jvm.Cond.lays "java/lang/Throwable" "java/lang/Throwable" "backtrace" "Ljava/lang/Object;") ∈ lw_all := lw_g (lw_at lw_m2 156 rfl) rfl
theorem q541 : (Jvm.Cond.fieldLink "java/lang/Throwable" (198 : Nat) "java/lang/Throwable" "backtrace" "Ljava/lang/Object;") ∈ lw_all := lw_g (lw_at lw_m2 157 rfl) rfl
theorem q542 : (Jvm.Cond.superclass "java/lang/Throwable" "java/lang/Object") ∈ lw_all := lw_g (lw_at lw_m2 158 rfl) rfl
theorem q543 : (Jvm.Cond.instanceMethod ({ cls := "java/lang/Throwable", name := "<init>", desc := "()V" } : Jvm.MethodName)) ∈ lw_all := lw_g (lw_at lw_m2 159 rfl) rfl
theorem q544 : (Jvm.Cond.code ({ cls := "java/lang/Throwable", name := "<init>", desc := "()V" } : Jvm.MethodName) prog_34_method_1_code (1 : Nat) (Option.none : Option Jvm.ClassFile.FieldType)) ∈ lw_all := lw_g (lw_at lw_m2 160 rfl) rfl
theorem q545 : (Jvm.Cond.methodLink "java/lang/Throwable" (1 : Nat) ({ cls := "java/lang/Object", name := "<init>", desc := "()V" } : Jvm.MethodName)) ∈ lw_all := lw_g (lw_at lw_m2 161 rfl) rfl
theorem q546 : (Jvm.Cond.fieldLink "java/lang/Throwable" (13 : Nat) "java/lang/Throwable" "UNASSIGNED_STACK" "[Ljava/lang/StackTraceElement;") ∈ lw_all := lw_g (lw_at lw_m2 162 rfl) rfl
theorem q547 : (Jvm.Cond.laysStatic "java/lang/Throwable" "UNASSIGNED_STACK" "[Ljava/lang/StackTraceElement;") ∈ lw_tbl := lw_at lw_m2 163 rfl
theorem q548 : (Jvm.Cond.fieldLink "java/lang/Throwable" (20 : Nat) "java/lang/Throwable" "SUPPRESSED_SENTINEL" "Ljava/util/List;") ∈ lw_all := lw_g (lw_at lw_m2 164 rfl) rfl
theorem q549 : (Jvm.Cond.laysStatic "java/lang/Throwable" "SUPPRESSED_SENTINEL" "Ljava/util/List;") ∈ lw_tbl := lw_at lw_m2 165 rfl
theorem q550 : (Jvm.Cond.methodLink "java/lang/Throwable" (27 : Nat) ({ cls := "java/lang/Throwable", name := "fillInStackTrace", desc := "()Ljava/lang/Throwable;" } : Jvm.MethodName)) ∈ lw_all := lw_g (lw_at lw_m2 166 rfl) rfl
theorem q551 : (Jvm.Cond.instanceMethod ({ cls := "java/lang/Throwable", name := "fillInStackTrace", desc := "()Ljava/lang/Throwable;" } : Jvm.MethodName)) ∈ lw_all := lw_g (lw_at lw_m2 167 rfl) rfl
theorem q552 : (Jvm.Cond.sameMethod "java/lang/Throwable" "java/lang/Throwable" "fillInStackTrace" "()Ljava/lang/Throwable;") ∈ lw_all := lw_g (lw_at lw_m2 168 rfl) rfl
theorem q553 : (Jvm.Cond.codeSync ({ cls := "java/lang/Throwable", name := "fillInStackTrace", desc := "()Ljava/lang/Throwable;" } : Jvm.MethodName) prog_34_method_18_code (1 : Nat) (Option.some (Jvm.ClassFile.FieldType.object "java/lang/Throwable"))) ∈ lw_all := lw_g (lw_at lw_m2 169 rfl) rfl
theorem q554 : (Jvm.Cond.methodLink "java/lang/Throwable" (202 : Nat) ({ cls := "java/lang/Throwable", name := "fillInStackTrace", desc := "(I)Ljava/lang/Throwable;" } : Jvm.MethodName)) ∈ lw_all := lw_g (lw_at lw_m2 170 rfl) rfl
theorem q555 : (Jvm.Cond.privateMethod ({ cls := "java/lang/Throwable", name := "fillInStackTrace", desc := "(I)Ljava/lang/Throwable;" } : Jvm.MethodName)) ∈ lw_tbl := lw_at lw_m2 171 rfl
theorem q556 : (Jvm.Cond.instanceMethod ({ cls := "java/lang/Throwable", name := "fillInStackTrace", desc := "(I)Ljava/lang/Throwable;" } : Jvm.MethodName)) ∈ lw_all := lw_g (lw_at lw_m2 172 rfl) rfl
theorem q557 : (Jvm.Cond.instantiable "java/lang/Throwable" (6 : Nat)) ∈ lw_all := lw_g (lw_at lw_m2 173 rfl) rfl
theorem q558 : (Jvm.Cond.native ({ cls := "java/lang/Throwable", name := "fillInStackTrace", desc := "(I)Ljava/lang/Throwable;" } : Jvm.MethodName)) ∈ lw_all := lw_g (lw_at lw_m2 174 rfl) rfl
theorem q570 : (Jvm.Cond.fieldLink "java/lang/Throwable" (198 : Nat) "java/lang/Throwable" "backtrace" "Ljava/lang/Object;") ∈ lw_all := lw_g (lw_at lw_m2 186 rfl) rfl
theorem q571 : (Jvm.Cond.fieldLink "java/lang/Throwable" (7 : Nat) "java/lang/Throwable" "cause" "Ljava/lang/Throwable;") ∈ lw_all := lw_g (lw_at lw_m2 187 rfl) rfl
theorem q572 : (Jvm.Cond.fieldLink "java/lang/Throwable" (17 : Nat) "java/lang/Throwable" "stackTrace" "[Ljava/lang/StackTraceElement;") ∈ lw_all := lw_g (lw_at lw_m2 188 rfl) rfl
theorem q573 : (Jvm.Cond.fieldLink "java/lang/Throwable" (24 : Nat) "java/lang/Throwable" "suppressedExceptions" "Ljava/util/List;") ∈ lw_all := lw_g (lw_at lw_m2 189 rfl) rfl
theorem q578 : (Jvm.Cond.soleField "java/lang/Throwable" "backtrace") ∈ lw_all := lw_g (lw_at lw_m2 194 rfl) rfl
theorem q579 : (Jvm.Cond.soleField "java/lang/Throwable" "detailMessage") ∈ lw_all := lw_g (lw_at lw_m2 195 rfl) rfl
theorem q580 : (Jvm.Cond.soleField "java/lang/Throwable" "cause") ∈ lw_all := lw_g (lw_at lw_m2 196 rfl) rfl
theorem q581 : (Jvm.Cond.soleField "java/lang/Throwable" "stackTrace") ∈ lw_all := lw_g (lw_at lw_m2 197 rfl) rfl
theorem q583 : (Jvm.Cond.soleField "java/lang/Throwable" "depth") ∈ lw_all := lw_g (lw_at lw_m2 199 rfl) rfl
theorem q584 : (Jvm.Cond.soleField "java/lang/Throwable" "suppressedExceptions") ∈ lw_all := lw_g (lw_at lw_m2 200 rfl) rfl
theorem q2354 : (Jvm.Cond.sameMethod "java/lang/Throwable" "java/lang/Throwable" "fillInStackTrace" "(I)Ljava/lang/Throwable;") ∈ lw_all := lw_g (lw_at lw_m10 50 rfl) rfl
theorem q2387 : (Jvm.Cond.castable "java/lang/Throwable" "java/lang/Object") ∈ lw_tbl := lw_at lw_m10 83 rfl
theorem in_J7 : ∀ w ∈ wsJ70, w ∈ lw_all := lw_in wsJ70 [532, 534, 536, 538, 540] (by decide +kernel) (by decide +kernel)

/-! java/lang/Exception -/
set_option maxRecDepth 100000
def RJ8 : String := "java/lang/Exception"
abbrev cJ8_init : ByteArray := prog_26_method_1_code
def yJ8_init : MethodName := ⟨RJ8, "<init>", "()V"⟩
theorem dJ8_init_0 : decode cJ8_init 0 = .ok (.aload_n 0, 1) := by decide +kernel
theorem dJ8_init_1 : decode cJ8_init 1 = .ok (.invokespecial 1, 3) := by decide +kernel
theorem dJ8_init_4 : decode cJ8_init 4 = .ok (.return_, 1) := by decide +kernel
theorem q159 : (Jvm.Cond.initialized "java/lang/Exception") ∈ lw_all := lw_g (lw_at lw_m1 15 rfl) rfl
theorem q525 : (Jvm.Cond.declares ({ cls := "java/lang/Exception", name := "<init>", desc := "()V" } : Jvm.MethodName)) ∈ lw_tbl := lw_at lw_m2 141 rfl
theorem q526 : (Jvm.Cond.declares ({ cls := "java/lang/Exception", name := "<init>", desc := "(Ljava/lang/String;)V" } : Jvm.MethodName)) ∈ lw_tbl := lw_at lw_m2 142 rfl
theorem q563 : (Jvm.Cond.instanceMethod ({ cls := "java/lang/Exception", name := "<init>", desc := "()V" } : Jvm.MethodName)) ∈ lw_all := lw_g (lw_at lw_m2 179 rfl) rfl
theorem q564 : (Jvm.Cond.code ({ cls := "java/lang/Exception", name := "<init>", desc := "()V" } : Jvm.MethodName) prog_26_method_1_code (1 : Nat) (Option.none : Option Jvm.ClassFile.FieldType)) ∈ lw_all := lw_g (lw_at lw_m2 180 rfl) rfl
theorem q565 : (Jvm.Cond.methodLink "java/lang/Exception" (1 : Nat) ({ cls := "java/lang/Throwable", name := "<init>", desc := "()V" } : Jvm.MethodName)) ∈ lw_all := lw_g (lw_at lw_m2 181 rfl) rfl

/-! java/util/Objects -/
set_option maxRecDepth 100000
def RJ9 : String := "java/util/Objects"
abbrev cJ9_checkIndex : ByteArray := prog_41_method_17_code
def yJ9_checkIndex : MethodName := ⟨RJ9, "checkIndex", "(II)I"⟩
def dkwJ9_checkIndex_0 : List UInt8 := [26, 27, 1, 184, 0, 105, 172]
abbrev dktJ9_checkIndex_0 : List UInt8 := dkwJ9_checkIndex_0 ++ []
theorem dksJ9_checkIndex_0 : cJ9_checkIndex.data.toList.drop 0 = dktJ9_checkIndex_0 := by decide +kernel
theorem dJ9_checkIndex_0 : decode cJ9_checkIndex 0 = .ok (.iload_n 0, 1) := dk_26 (dk_at dksJ9_checkIndex_0 0 rfl rfl)
theorem dJ9_checkIndex_1 : decode cJ9_checkIndex 1 = .ok (.iload_n 1, 1) := dk_27 (dk_at dksJ9_checkIndex_0 1 rfl rfl)
theorem dJ9_checkIndex_2 : decode cJ9_checkIndex 2 = .ok (.aconst_null, 1) := dk_1 (dk_at dksJ9_checkIndex_0 2 rfl rfl)
theorem dJ9_checkIndex_3 : decode cJ9_checkIndex 3 = .ok (.invokestatic 105, 3) := dk_184 0 105 (dk_at dksJ9_checkIndex_0 3 rfl rfl)
theorem dJ9_checkIndex_6 : decode cJ9_checkIndex 6 = .ok (.ireturn, 1) := dk_172 (dk_at dksJ9_checkIndex_0 6 rfl rfl)
theorem q161 : (Jvm.Cond.initialized "java/util/Objects") ∈ lw_all := lw_g (lw_at lw_m1 17 rfl) rfl
theorem q630 : (Jvm.Cond.static ({ cls := "java/util/Objects", name := "checkIndex", desc := "(II)I" } : Jvm.MethodName)) ∈ lw_all := lw_g (lw_at lw_m3 6 rfl) rfl
theorem q631 : (Jvm.Cond.code ({ cls := "java/util/Objects", name := "checkIndex", desc := "(II)I" } : Jvm.MethodName) prog_41_method_17_code (2 : Nat) (Option.some Jvm.ClassFile.FieldType.int)) ∈ lw_all := lw_g (lw_at lw_m3 7 rfl) rfl
theorem q632 : (Jvm.Cond.methodLink "java/util/Objects" (105 : Nat) ({ cls := "jdk/internal/util/Preconditions", name := "checkIndex", desc := "(IILjava/util/function/BiFunction;)I" } : Jvm.MethodName)) ∈ lw_all := lw_g (lw_at lw_m3 8 rfl) rfl

/-! TubBites$Water -/
set_option maxRecDepth 100000
def RX1 : String := "TubBites$Water"
def TX1 : u_T := fun k => match k with
  | 0 => ("TubBites$Water", "across", "I", false)
  | 1 => ("TubBites$Water", "up", "I", false)
  | 2 => ("TubBites$Water", "draw", "I", false)
  | 3 => ("TubBites$Water", "seed", "I", false)
  | 4 => ("TubBites$Water", "units", "I", false)
  | 5 => ("TubBites$Water", "bite", "I", false)
  | 6 => ("TubBites$Water", "isTold", "Z", false)
  | 7 => ("TubBites$Water", "isDraw", "Z", false)
  | 8 => ("TubBites$Water", "isBite", "Z", false)
  | 9 => ("TubBites$Water", "odds", "[LTubBites$Part;", true)
  | 10 => ("TubBites$Water", "rules", "Ljava/util/ArrayList;", true)
  | 11 => ("TubBites$Water", "apples", "Ljava/util/ArrayList;", true)
  | 12 => ("TubBites$Water", "bobbers", "Ljava/util/ArrayList;", true)
  | _ => ("TubBites$Water", "told", "LTubBites$Told;", true)
def tyX1 : Nat → FieldType := fun k => match k with
  | 0 => .int
  | 1 => .int
  | 2 => .int
  | 3 => .int
  | 4 => .int
  | 5 => .int
  | 6 => .boolean
  | 7 => .boolean
  | 8 => .boolean
  | 9 => .array (.object "TubBites$Part")
  | 10 => .object "java/util/ArrayList"
  | 11 => .object "java/util/ArrayList"
  | 12 => .object "java/util/ArrayList"
  | _ => .object "TubBites$Told"
abbrev wsX10 : List Cond := u_ws RX1 TX1 14
set_option maxRecDepth 100000 in
theorem nmX1 : ∀ a, a < 14 → ∀ b, b < 14 → a ≠ b → (TX1 a).2.1 ≠ (TX1 b).2.1 := by decide +kernel
set_option maxRecDepth 100000 in
theorem tyX1_ok : ∀ k, k < 14 → parseFieldDescriptor (TX1 k).2.2.1 = some (tyX1 k) := by decide +kernel
abbrev cX1_init : ByteArray := prog_20_method_1_code
def yX1_init : MethodName := ⟨RX1, "<init>", "()V"⟩
def dkwX1_init_2 : List UInt8 := [183, 0, 23, 181, 0, 31, 42, 187, 0, 34, 89, 183, 0, 36, 181, 0, 37, 177]
abbrev dktX1_init_2 : List UInt8 := dkwX1_init_2 ++ []
def dkwX1_init_1 : List UInt8 := [183, 0, 23, 181, 0, 24, 42, 187, 0, 21, 89, 183, 0, 23, 181, 0, 28, 42, 187, 0, 21, 89]
abbrev dktX1_init_1 : List UInt8 := dkwX1_init_1 ++ dktX1_init_2
def dkwX1_init_0 : List UInt8 := [42, 183, 0, 3, 42, 16, 10, 181, 0, 9, 42, 8, 189, 0, 15, 181, 0, 17, 42, 187, 0, 21, 89]
abbrev dktX1_init_0 : List UInt8 := dkwX1_init_0 ++ dktX1_init_1
theorem dksX1_init_0 : cX1_init.data.toList.drop 0 = dktX1_init_0 := by decide +kernel
theorem dksX1_init_1 : cX1_init.data.toList.drop 23 = dktX1_init_1 := dk_seg dksX1_init_0 23 rfl rfl
theorem dksX1_init_2 : cX1_init.data.toList.drop 45 = dktX1_init_2 := dk_seg dksX1_init_1 22 rfl rfl
theorem dX1_init_0 : decode cX1_init 0 = .ok (.aload_n 0, 1) := dk_42 (dk_at dksX1_init_0 0 rfl rfl)
theorem dX1_init_1 : decode cX1_init 1 = .ok (.invokespecial 3, 3) := dk_183 0 3 (dk_at dksX1_init_0 1 rfl rfl)
theorem dX1_init_4 : decode cX1_init 4 = .ok (.aload_n 0, 1) := dk_42 (dk_at dksX1_init_0 4 rfl rfl)
theorem dX1_init_5 : decode cX1_init 5 = .ok (.bipush 10, 2) := dk_16 10 (dk_at dksX1_init_0 5 rfl rfl)
theorem dX1_init_7 : decode cX1_init 7 = .ok (.putfield 9, 3) := dk_181 0 9 (dk_at dksX1_init_0 7 rfl rfl)
theorem dX1_init_10 : decode cX1_init 10 = .ok (.aload_n 0, 1) := dk_42 (dk_at dksX1_init_0 10 rfl rfl)
theorem dX1_init_11 : decode cX1_init 11 = .ok (.iconst 5, 1) := dk_8 (dk_at dksX1_init_0 11 rfl rfl)
theorem dX1_init_12 : decode cX1_init 12 = .ok (.anewarray 15, 3) := dk_189 0 15 (dk_at dksX1_init_0 12 rfl rfl)
theorem dX1_init_15 : decode cX1_init 15 = .ok (.putfield 17, 3) := dk_181 0 17 (dk_at dksX1_init_0 15 rfl rfl)
theorem dX1_init_18 : decode cX1_init 18 = .ok (.aload_n 0, 1) := dk_42 (dk_at dksX1_init_0 18 rfl rfl)
theorem dX1_init_19 : decode cX1_init 19 = .ok (.new 21, 3) := dk_187 0 21 (dk_at dksX1_init_0 19 rfl rfl)
theorem dX1_init_22 : decode cX1_init 22 = .ok (.dup, 1) := dk_89 (dk_at dksX1_init_0 22 rfl rfl)
theorem dX1_init_23 : decode cX1_init 23 = .ok (.invokespecial 23, 3) := dk_183 0 23 (dk_at dksX1_init_1 0 rfl rfl)
theorem dX1_init_26 : decode cX1_init 26 = .ok (.putfield 24, 3) := dk_181 0 24 (dk_at dksX1_init_1 3 rfl rfl)
theorem dX1_init_29 : decode cX1_init 29 = .ok (.aload_n 0, 1) := dk_42 (dk_at dksX1_init_1 6 rfl rfl)
theorem dX1_init_30 : decode cX1_init 30 = .ok (.new 21, 3) := dk_187 0 21 (dk_at dksX1_init_1 7 rfl rfl)
theorem dX1_init_33 : decode cX1_init 33 = .ok (.dup, 1) := dk_89 (dk_at dksX1_init_1 10 rfl rfl)
theorem dX1_init_34 : decode cX1_init 34 = .ok (.invokespecial 23, 3) := dk_183 0 23 (dk_at dksX1_init_1 11 rfl rfl)
theorem dX1_init_37 : decode cX1_init 37 = .ok (.putfield 28, 3) := dk_181 0 28 (dk_at dksX1_init_1 14 rfl rfl)
theorem dX1_init_40 : decode cX1_init 40 = .ok (.aload_n 0, 1) := dk_42 (dk_at dksX1_init_1 17 rfl rfl)
theorem dX1_init_41 : decode cX1_init 41 = .ok (.new 21, 3) := dk_187 0 21 (dk_at dksX1_init_1 18 rfl rfl)
theorem dX1_init_44 : decode cX1_init 44 = .ok (.dup, 1) := dk_89 (dk_at dksX1_init_1 21 rfl rfl)
theorem dX1_init_45 : decode cX1_init 45 = .ok (.invokespecial 23, 3) := dk_183 0 23 (dk_at dksX1_init_2 0 rfl rfl)
theorem dX1_init_48 : decode cX1_init 48 = .ok (.putfield 31, 3) := dk_181 0 31 (dk_at dksX1_init_2 3 rfl rfl)
theorem dX1_init_51 : decode cX1_init 51 = .ok (.aload_n 0, 1) := dk_42 (dk_at dksX1_init_2 6 rfl rfl)
theorem dX1_init_52 : decode cX1_init 52 = .ok (.new 34, 3) := dk_187 0 34 (dk_at dksX1_init_2 7 rfl rfl)
theorem dX1_init_55 : decode cX1_init 55 = .ok (.dup, 1) := dk_89 (dk_at dksX1_init_2 10 rfl rfl)
theorem dX1_init_56 : decode cX1_init 56 = .ok (.invokespecial 36, 3) := dk_183 0 36 (dk_at dksX1_init_2 11 rfl rfl)
theorem dX1_init_59 : decode cX1_init 59 = .ok (.putfield 37, 3) := dk_181 0 37 (dk_at dksX1_init_2 14 rfl rfl)
theorem dX1_init_62 : decode cX1_init 62 = .ok (.return_, 1) := dk_177 (dk_at dksX1_init_2 17 rfl rfl)
abbrev cX1_begin : ByteArray := prog_20_method_4_code
def yX1_begin : MethodName := ⟨RX1, "begin", "()V"⟩
def dkwX1_begin_3 : List UInt8 := [181, 0, 70, 177]
abbrev dktX1_begin_3 : List UInt8 := dkwX1_begin_3 ++ []
def dkwX1_begin_2 : List UInt8 := [180, 0, 31, 27, 182, 0, 55, 192, 0, 64, 182, 0, 66, 132, 1, 1, 167, 255, 228, 42, 42, 180, 0, 67]
abbrev dktX1_begin_2 : List UInt8 := dkwX1_begin_2 ++ dktX1_begin_3
def dkwX1_begin_1 : List UInt8 := [182, 0, 61, 132, 1, 1, 167, 255, 228, 3, 60, 27, 42, 180, 0, 31, 182, 0, 51, 162, 0, 23, 42]
abbrev dktX1_begin_1 : List UInt8 := dkwX1_begin_1 ++ dktX1_begin_2
def dkwX1_begin_0 : List UInt8 := [3, 60, 27, 42, 180, 0, 28, 182, 0, 51, 162, 0, 23, 42, 180, 0, 28, 27, 182, 0, 55, 192, 0, 59]
abbrev dktX1_begin_0 : List UInt8 := dkwX1_begin_0 ++ dktX1_begin_1
theorem dksX1_begin_0 : cX1_begin.data.toList.drop 0 = dktX1_begin_0 := by decide +kernel
theorem dksX1_begin_1 : cX1_begin.data.toList.drop 24 = dktX1_begin_1 := dk_seg dksX1_begin_0 24 rfl rfl
theorem dksX1_begin_2 : cX1_begin.data.toList.drop 47 = dktX1_begin_2 := dk_seg dksX1_begin_1 23 rfl rfl
theorem dksX1_begin_3 : cX1_begin.data.toList.drop 71 = dktX1_begin_3 := dk_seg dksX1_begin_2 24 rfl rfl
theorem dX1_begin_0 : decode cX1_begin 0 = .ok (.iconst 0, 1) := dk_3 (dk_at dksX1_begin_0 0 rfl rfl)
theorem dX1_begin_1 : decode cX1_begin 1 = .ok (.istore_n 1, 1) := dk_60 (dk_at dksX1_begin_0 1 rfl rfl)
theorem dX1_begin_2 : decode cX1_begin 2 = .ok (.iload_n 1, 1) := dk_27 (dk_at dksX1_begin_0 2 rfl rfl)
theorem dX1_begin_3 : decode cX1_begin 3 = .ok (.aload_n 0, 1) := dk_42 (dk_at dksX1_begin_0 3 rfl rfl)
theorem dX1_begin_4 : decode cX1_begin 4 = .ok (.getfield 28, 3) := dk_180 0 28 (dk_at dksX1_begin_0 4 rfl rfl)
theorem dX1_begin_7 : decode cX1_begin 7 = .ok (.invokevirtual 51, 3) := dk_182 0 51 (dk_at dksX1_begin_0 7 rfl rfl)
theorem dX1_begin_10 : decode cX1_begin 10 = .ok (.if_icmp .ge 23, 3) := dk_162 0 23 (dk_at dksX1_begin_0 10 rfl rfl)
theorem dX1_begin_13 : decode cX1_begin 13 = .ok (.aload_n 0, 1) := dk_42 (dk_at dksX1_begin_0 13 rfl rfl)
theorem dX1_begin_14 : decode cX1_begin 14 = .ok (.getfield 28, 3) := dk_180 0 28 (dk_at dksX1_begin_0 14 rfl rfl)
theorem dX1_begin_17 : decode cX1_begin 17 = .ok (.iload_n 1, 1) := dk_27 (dk_at dksX1_begin_0 17 rfl rfl)
theorem dX1_begin_18 : decode cX1_begin 18 = .ok (.invokevirtual 55, 3) := dk_182 0 55 (dk_at dksX1_begin_0 18 rfl rfl)
theorem dX1_begin_21 : decode cX1_begin 21 = .ok (.checkcast 59, 3) := dk_192 0 59 (dk_at dksX1_begin_0 21 rfl rfl)
theorem dX1_begin_24 : decode cX1_begin 24 = .ok (.invokevirtual 61, 3) := dk_182 0 61 (dk_at dksX1_begin_1 0 rfl rfl)
theorem dX1_begin_27 : decode cX1_begin 27 = .ok (.iinc 1 1, 3) := dk_132 1 1 (dk_at dksX1_begin_1 3 rfl rfl)
theorem dX1_begin_30 : decode cX1_begin 30 = .ok (.goto (-28), 3) := dk_167 255 228 (dk_at dksX1_begin_1 6 rfl rfl)
theorem dX1_begin_33 : decode cX1_begin 33 = .ok (.iconst 0, 1) := dk_3 (dk_at dksX1_begin_1 9 rfl rfl)
theorem dX1_begin_34 : decode cX1_begin 34 = .ok (.istore_n 1, 1) := dk_60 (dk_at dksX1_begin_1 10 rfl rfl)
theorem dX1_begin_35 : decode cX1_begin 35 = .ok (.iload_n 1, 1) := dk_27 (dk_at dksX1_begin_1 11 rfl rfl)
theorem dX1_begin_36 : decode cX1_begin 36 = .ok (.aload_n 0, 1) := dk_42 (dk_at dksX1_begin_1 12 rfl rfl)
theorem dX1_begin_37 : decode cX1_begin 37 = .ok (.getfield 31, 3) := dk_180 0 31 (dk_at dksX1_begin_1 13 rfl rfl)
theorem dX1_begin_40 : decode cX1_begin 40 = .ok (.invokevirtual 51, 3) := dk_182 0 51 (dk_at dksX1_begin_1 16 rfl rfl)
theorem dX1_begin_43 : decode cX1_begin 43 = .ok (.if_icmp .ge 23, 3) := dk_162 0 23 (dk_at dksX1_begin_1 19 rfl rfl)
theorem dX1_begin_46 : decode cX1_begin 46 = .ok (.aload_n 0, 1) := dk_42 (dk_at dksX1_begin_1 22 rfl rfl)
theorem dX1_begin_47 : decode cX1_begin 47 = .ok (.getfield 31, 3) := dk_180 0 31 (dk_at dksX1_begin_2 0 rfl rfl)
theorem dX1_begin_50 : decode cX1_begin 50 = .ok (.iload_n 1, 1) := dk_27 (dk_at dksX1_begin_2 3 rfl rfl)
theorem dX1_begin_51 : decode cX1_begin 51 = .ok (.invokevirtual 55, 3) := dk_182 0 55 (dk_at dksX1_begin_2 4 rfl rfl)
theorem dX1_begin_54 : decode cX1_begin 54 = .ok (.checkcast 64, 3) := dk_192 0 64 (dk_at dksX1_begin_2 7 rfl rfl)
theorem dX1_begin_57 : decode cX1_begin 57 = .ok (.invokevirtual 66, 3) := dk_182 0 66 (dk_at dksX1_begin_2 10 rfl rfl)
theorem dX1_begin_60 : decode cX1_begin 60 = .ok (.iinc 1 1, 3) := dk_132 1 1 (dk_at dksX1_begin_2 13 rfl rfl)
theorem dX1_begin_63 : decode cX1_begin 63 = .ok (.goto (-28), 3) := dk_167 255 228 (dk_at dksX1_begin_2 16 rfl rfl)
theorem dX1_begin_66 : decode cX1_begin 66 = .ok (.aload_n 0, 1) := dk_42 (dk_at dksX1_begin_2 19 rfl rfl)
theorem dX1_begin_67 : decode cX1_begin 67 = .ok (.aload_n 0, 1) := dk_42 (dk_at dksX1_begin_2 20 rfl rfl)
theorem dX1_begin_68 : decode cX1_begin 68 = .ok (.getfield 67, 3) := dk_180 0 67 (dk_at dksX1_begin_2 21 rfl rfl)
theorem dX1_begin_71 : decode cX1_begin 71 = .ok (.putfield 70, 3) := dk_181 0 70 (dk_at dksX1_begin_3 0 rfl rfl)
theorem dX1_begin_74 : decode cX1_begin 74 = .ok (.return_, 1) := dk_177 (dk_at dksX1_begin_3 3 rfl rfl)
abbrev cX1_can : ByteArray := prog_20_method_13_code
def yX1_can : MethodName := ⟨RX1, "can", "(LTubBites$Bobber;LTubBites$Apple;I)Z"⟩
def dkwX1_can_2 : List UInt8 := [153, 0, 7, 4, 167, 0, 4, 3, 172]
abbrev dktX1_can_2 : List UInt8 := dkwX1_can_2 ++ []
def dkwX1_can_1 : List UInt8 := [178, 0, 165, 29, 50, 182, 0, 169, 161, 0, 21, 178, 0, 165, 29, 50, 42, 43, 44, 182, 0, 173]
abbrev dktX1_can_1 : List UInt8 := dkwX1_can_1 ++ dktX1_can_2
def dkwX1_can_0 : List UInt8 := [44, 180, 0, 73, 2, 160, 0, 48, 43, 44, 182, 0, 134, 43, 180, 0, 162, 163, 0, 36, 43, 180, 0, 144]
abbrev dktX1_can_0 : List UInt8 := dkwX1_can_0 ++ dktX1_can_1
theorem dksX1_can_0 : cX1_can.data.toList.drop 0 = dktX1_can_0 := by decide +kernel
theorem dksX1_can_1 : cX1_can.data.toList.drop 24 = dktX1_can_1 := dk_seg dksX1_can_0 24 rfl rfl
theorem dksX1_can_2 : cX1_can.data.toList.drop 46 = dktX1_can_2 := dk_seg dksX1_can_1 22 rfl rfl
theorem dX1_can_0 : decode cX1_can 0 = .ok (.aload_n 2, 1) := dk_44 (dk_at dksX1_can_0 0 rfl rfl)
theorem dX1_can_1 : decode cX1_can 1 = .ok (.getfield 73, 3) := dk_180 0 73 (dk_at dksX1_can_0 1 rfl rfl)
theorem dX1_can_4 : decode cX1_can 4 = .ok (.iconst (-1), 1) := dk_2 (dk_at dksX1_can_0 4 rfl rfl)
theorem dX1_can_5 : decode cX1_can 5 = .ok (.if_icmp .ne 48, 3) := dk_160 0 48 (dk_at dksX1_can_0 5 rfl rfl)
theorem dX1_can_8 : decode cX1_can 8 = .ok (.aload_n 1, 1) := dk_43 (dk_at dksX1_can_0 8 rfl rfl)
theorem dX1_can_9 : decode cX1_can 9 = .ok (.aload_n 2, 1) := dk_44 (dk_at dksX1_can_0 9 rfl rfl)
theorem dX1_can_10 : decode cX1_can 10 = .ok (.invokevirtual 134, 3) := dk_182 0 134 (dk_at dksX1_can_0 10 rfl rfl)
theorem dX1_can_13 : decode cX1_can 13 = .ok (.aload_n 1, 1) := dk_43 (dk_at dksX1_can_0 13 rfl rfl)
theorem dX1_can_14 : decode cX1_can 14 = .ok (.getfield 162, 3) := dk_180 0 162 (dk_at dksX1_can_0 14 rfl rfl)
theorem dX1_can_17 : decode cX1_can 17 = .ok (.if_icmp .gt 36, 3) := dk_163 0 36 (dk_at dksX1_can_0 17 rfl rfl)
theorem dX1_can_20 : decode cX1_can 20 = .ok (.aload_n 1, 1) := dk_43 (dk_at dksX1_can_0 20 rfl rfl)
theorem dX1_can_21 : decode cX1_can 21 = .ok (.getfield 144, 3) := dk_180 0 144 (dk_at dksX1_can_0 21 rfl rfl)
theorem dX1_can_24 : decode cX1_can 24 = .ok (.getstatic 165, 3) := dk_178 0 165 (dk_at dksX1_can_1 0 rfl rfl)
theorem dX1_can_27 : decode cX1_can 27 = .ok (.iload_n 3, 1) := dk_29 (dk_at dksX1_can_1 3 rfl rfl)
theorem dX1_can_28 : decode cX1_can 28 = .ok (.aaload, 1) := dk_50 (dk_at dksX1_can_1 4 rfl rfl)
theorem dX1_can_29 : decode cX1_can 29 = .ok (.invokevirtual 169, 3) := dk_182 0 169 (dk_at dksX1_can_1 5 rfl rfl)
theorem dX1_can_32 : decode cX1_can 32 = .ok (.if_icmp .lt 21, 3) := dk_161 0 21 (dk_at dksX1_can_1 8 rfl rfl)
theorem dX1_can_35 : decode cX1_can 35 = .ok (.getstatic 165, 3) := dk_178 0 165 (dk_at dksX1_can_1 11 rfl rfl)
theorem dX1_can_38 : decode cX1_can 38 = .ok (.iload_n 3, 1) := dk_29 (dk_at dksX1_can_1 14 rfl rfl)
theorem dX1_can_39 : decode cX1_can 39 = .ok (.aaload, 1) := dk_50 (dk_at dksX1_can_1 15 rfl rfl)
theorem dX1_can_40 : decode cX1_can 40 = .ok (.aload_n 0, 1) := dk_42 (dk_at dksX1_can_1 16 rfl rfl)
theorem dX1_can_41 : decode cX1_can 41 = .ok (.aload_n 1, 1) := dk_43 (dk_at dksX1_can_1 17 rfl rfl)
theorem dX1_can_42 : decode cX1_can 42 = .ok (.aload_n 2, 1) := dk_44 (dk_at dksX1_can_1 18 rfl rfl)
theorem dX1_can_43 : decode cX1_can 43 = .ok (.invokevirtual 173, 3) := dk_182 0 173 (dk_at dksX1_can_1 19 rfl rfl)
theorem dX1_can_46 : decode cX1_can 46 = .ok (.ifCond .eq 7, 3) := dk_153 0 7 (dk_at dksX1_can_2 0 rfl rfl)
theorem dX1_can_49 : decode cX1_can 49 = .ok (.iconst 1, 1) := dk_4 (dk_at dksX1_can_2 3 rfl rfl)
theorem dX1_can_50 : decode cX1_can 50 = .ok (.goto 4, 3) := dk_167 0 4 (dk_at dksX1_can_2 4 rfl rfl)
theorem dX1_can_53 : decode cX1_can 53 = .ok (.iconst 0, 1) := dk_3 (dk_at dksX1_can_2 7 rfl rfl)
theorem dX1_can_54 : decode cX1_can 54 = .ok (.ireturn, 1) := dk_172 (dk_at dksX1_can_2 8 rfl rfl)
abbrev cX1_pushX : ByteArray := prog_20_method_8_code
def yX1_pushX : MethodName := ⟨RX1, "pushX", "(LTubBites$Bobber;LTubBites$Apple;)I"⟩
def dkwX1_pushX_1 : List UInt8 := [172]
abbrev dktX1_pushX_1 : List UInt8 := dkwX1_pushX_1 ++ []
def dkwX1_pushX_0 : List UInt8 := [43, 44, 184, 0, 102, 153, 0, 18, 44, 180, 0, 76, 43, 180, 0, 94, 100, 184, 0, 106, 167, 0, 4, 3]
abbrev dktX1_pushX_0 : List UInt8 := dkwX1_pushX_0 ++ dktX1_pushX_1
theorem dksX1_pushX_0 : cX1_pushX.data.toList.drop 0 = dktX1_pushX_0 := by decide +kernel
theorem dksX1_pushX_1 : cX1_pushX.data.toList.drop 24 = dktX1_pushX_1 := dk_seg dksX1_pushX_0 24 rfl rfl
theorem dX1_pushX_0 : decode cX1_pushX 0 = .ok (.aload_n 1, 1) := dk_43 (dk_at dksX1_pushX_0 0 rfl rfl)
theorem dX1_pushX_1 : decode cX1_pushX 1 = .ok (.aload_n 2, 1) := dk_44 (dk_at dksX1_pushX_0 1 rfl rfl)
theorem dX1_pushX_2 : decode cX1_pushX 2 = .ok (.invokestatic 102, 3) := dk_184 0 102 (dk_at dksX1_pushX_0 2 rfl rfl)
theorem dX1_pushX_5 : decode cX1_pushX 5 = .ok (.ifCond .eq 18, 3) := dk_153 0 18 (dk_at dksX1_pushX_0 5 rfl rfl)
theorem dX1_pushX_8 : decode cX1_pushX 8 = .ok (.aload_n 2, 1) := dk_44 (dk_at dksX1_pushX_0 8 rfl rfl)
theorem dX1_pushX_9 : decode cX1_pushX 9 = .ok (.getfield 76, 3) := dk_180 0 76 (dk_at dksX1_pushX_0 9 rfl rfl)
theorem dX1_pushX_12 : decode cX1_pushX 12 = .ok (.aload_n 1, 1) := dk_43 (dk_at dksX1_pushX_0 12 rfl rfl)
theorem dX1_pushX_13 : decode cX1_pushX 13 = .ok (.getfield 94, 3) := dk_180 0 94 (dk_at dksX1_pushX_0 13 rfl rfl)
theorem dX1_pushX_16 : decode cX1_pushX 16 = .ok (.isub, 1) := dk_100 (dk_at dksX1_pushX_0 16 rfl rfl)
theorem dX1_pushX_17 : decode cX1_pushX 17 = .ok (.invokestatic 106, 3) := dk_184 0 106 (dk_at dksX1_pushX_0 17 rfl rfl)
theorem dX1_pushX_20 : decode cX1_pushX 20 = .ok (.goto 4, 3) := dk_167 0 4 (dk_at dksX1_pushX_0 20 rfl rfl)
theorem dX1_pushX_23 : decode cX1_pushX 23 = .ok (.iconst 0, 1) := dk_3 (dk_at dksX1_pushX_0 23 rfl rfl)
theorem dX1_pushX_24 : decode cX1_pushX 24 = .ok (.ireturn, 1) := dk_172 (dk_at dksX1_pushX_1 0 rfl rfl)
abbrev cX1_isAcross : ByteArray := prog_20_method_7_code
def yX1_isAcross : MethodName := ⟨RX1, "isAcross", "(LTubBites$Bobber;LTubBites$Apple;)Z"⟩
def dkwX1_isAcross_1 : List UInt8 := [161, 0, 7, 4, 167, 0, 4, 3, 172]
abbrev dktX1_isAcross_1 : List UInt8 := dkwX1_isAcross_1 ++ []
def dkwX1_isAcross_0 : List UInt8 := [43, 180, 0, 76, 42, 180, 0, 94, 100, 184, 0, 95, 43, 180, 0, 79, 42, 180, 0, 101, 100, 184, 0, 95]
abbrev dktX1_isAcross_0 : List UInt8 := dkwX1_isAcross_0 ++ dktX1_isAcross_1
theorem dksX1_isAcross_0 : cX1_isAcross.data.toList.drop 0 = dktX1_isAcross_0 := by decide +kernel
theorem dksX1_isAcross_1 : cX1_isAcross.data.toList.drop 24 = dktX1_isAcross_1 := dk_seg dksX1_isAcross_0 24 rfl rfl
theorem dX1_isAcross_0 : decode cX1_isAcross 0 = .ok (.aload_n 1, 1) := dk_43 (dk_at dksX1_isAcross_0 0 rfl rfl)
theorem dX1_isAcross_1 : decode cX1_isAcross 1 = .ok (.getfield 76, 3) := dk_180 0 76 (dk_at dksX1_isAcross_0 1 rfl rfl)
theorem dX1_isAcross_4 : decode cX1_isAcross 4 = .ok (.aload_n 0, 1) := dk_42 (dk_at dksX1_isAcross_0 4 rfl rfl)
theorem dX1_isAcross_5 : decode cX1_isAcross 5 = .ok (.getfield 94, 3) := dk_180 0 94 (dk_at dksX1_isAcross_0 5 rfl rfl)
theorem dX1_isAcross_8 : decode cX1_isAcross 8 = .ok (.isub, 1) := dk_100 (dk_at dksX1_isAcross_0 8 rfl rfl)
theorem dX1_isAcross_9 : decode cX1_isAcross 9 = .ok (.invokestatic 95, 3) := dk_184 0 95 (dk_at dksX1_isAcross_0 9 rfl rfl)
theorem dX1_isAcross_12 : decode cX1_isAcross 12 = .ok (.aload_n 1, 1) := dk_43 (dk_at dksX1_isAcross_0 12 rfl rfl)
theorem dX1_isAcross_13 : decode cX1_isAcross 13 = .ok (.getfield 79, 3) := dk_180 0 79 (dk_at dksX1_isAcross_0 13 rfl rfl)
theorem dX1_isAcross_16 : decode cX1_isAcross 16 = .ok (.aload_n 0, 1) := dk_42 (dk_at dksX1_isAcross_0 16 rfl rfl)
theorem dX1_isAcross_17 : decode cX1_isAcross 17 = .ok (.getfield 101, 3) := dk_180 0 101 (dk_at dksX1_isAcross_0 17 rfl rfl)
theorem dX1_isAcross_20 : decode cX1_isAcross 20 = .ok (.isub, 1) := dk_100 (dk_at dksX1_isAcross_0 20 rfl rfl)
theorem dX1_isAcross_21 : decode cX1_isAcross 21 = .ok (.invokestatic 95, 3) := dk_184 0 95 (dk_at dksX1_isAcross_0 21 rfl rfl)
theorem dX1_isAcross_24 : decode cX1_isAcross 24 = .ok (.if_icmp .lt 7, 3) := dk_161 0 7 (dk_at dksX1_isAcross_1 0 rfl rfl)
theorem dX1_isAcross_27 : decode cX1_isAcross 27 = .ok (.iconst 1, 1) := dk_4 (dk_at dksX1_isAcross_1 3 rfl rfl)
theorem dX1_isAcross_28 : decode cX1_isAcross 28 = .ok (.goto 4, 3) := dk_167 0 4 (dk_at dksX1_isAcross_1 4 rfl rfl)
theorem dX1_isAcross_31 : decode cX1_isAcross 31 = .ok (.iconst 0, 1) := dk_3 (dk_at dksX1_isAcross_1 7 rfl rfl)
theorem dX1_isAcross_32 : decode cX1_isAcross 32 = .ok (.ireturn, 1) := dk_172 (dk_at dksX1_isAcross_1 8 rfl rfl)
abbrev cX1_pushY : ByteArray := prog_20_method_9_code
def yX1_pushY : MethodName := ⟨RX1, "pushY", "(LTubBites$Bobber;LTubBites$Apple;)I"⟩
def dkwX1_pushY_1 : List UInt8 := [172]
abbrev dktX1_pushY_1 : List UInt8 := dkwX1_pushY_1 ++ []
def dkwX1_pushY_0 : List UInt8 := [43, 44, 184, 0, 102, 153, 0, 7, 3, 167, 0, 15, 44, 180, 0, 79, 43, 180, 0, 101, 100, 184, 0, 106]
abbrev dktX1_pushY_0 : List UInt8 := dkwX1_pushY_0 ++ dktX1_pushY_1
theorem dksX1_pushY_0 : cX1_pushY.data.toList.drop 0 = dktX1_pushY_0 := by decide +kernel
theorem dksX1_pushY_1 : cX1_pushY.data.toList.drop 24 = dktX1_pushY_1 := dk_seg dksX1_pushY_0 24 rfl rfl
theorem dX1_pushY_0 : decode cX1_pushY 0 = .ok (.aload_n 1, 1) := dk_43 (dk_at dksX1_pushY_0 0 rfl rfl)
theorem dX1_pushY_1 : decode cX1_pushY 1 = .ok (.aload_n 2, 1) := dk_44 (dk_at dksX1_pushY_0 1 rfl rfl)
theorem dX1_pushY_2 : decode cX1_pushY 2 = .ok (.invokestatic 102, 3) := dk_184 0 102 (dk_at dksX1_pushY_0 2 rfl rfl)
theorem dX1_pushY_5 : decode cX1_pushY 5 = .ok (.ifCond .eq 7, 3) := dk_153 0 7 (dk_at dksX1_pushY_0 5 rfl rfl)
theorem dX1_pushY_8 : decode cX1_pushY 8 = .ok (.iconst 0, 1) := dk_3 (dk_at dksX1_pushY_0 8 rfl rfl)
theorem dX1_pushY_9 : decode cX1_pushY 9 = .ok (.goto 15, 3) := dk_167 0 15 (dk_at dksX1_pushY_0 9 rfl rfl)
theorem dX1_pushY_12 : decode cX1_pushY 12 = .ok (.aload_n 2, 1) := dk_44 (dk_at dksX1_pushY_0 12 rfl rfl)
theorem dX1_pushY_13 : decode cX1_pushY 13 = .ok (.getfield 79, 3) := dk_180 0 79 (dk_at dksX1_pushY_0 13 rfl rfl)
theorem dX1_pushY_16 : decode cX1_pushY 16 = .ok (.aload_n 1, 1) := dk_43 (dk_at dksX1_pushY_0 16 rfl rfl)
theorem dX1_pushY_17 : decode cX1_pushY 17 = .ok (.getfield 101, 3) := dk_180 0 101 (dk_at dksX1_pushY_0 17 rfl rfl)
theorem dX1_pushY_20 : decode cX1_pushY 20 = .ok (.isub, 1) := dk_100 (dk_at dksX1_pushY_0 20 rfl rfl)
theorem dX1_pushY_21 : decode cX1_pushY 21 = .ok (.invokestatic 106, 3) := dk_184 0 106 (dk_at dksX1_pushY_0 21 rfl rfl)
theorem dX1_pushY_24 : decode cX1_pushY 24 = .ok (.ireturn, 1) := dk_172 (dk_at dksX1_pushY_1 0 rfl rfl)
abbrev cX1_at : ByteArray := prog_20_method_5_code
def yX1_at : MethodName := ⟨RX1, "at", "(II)LTubBites$Apple;"⟩
def dkwX1_at_2 : List UInt8 := [180, 0, 79, 28, 160, 0, 6, 25, 4, 176, 132, 3, 1, 167, 255, 199, 1, 176]
abbrev dktX1_at_2 : List UInt8 := dkwX1_at_2 ++ []
def dkwX1_at_1 : List UInt8 := [58, 4, 25, 4, 180, 0, 73, 2, 160, 0, 24, 25, 4, 180, 0, 76, 27, 160, 0, 15, 25, 4]
abbrev dktX1_at_1 : List UInt8 := dkwX1_at_1 ++ dktX1_at_2
def dkwX1_at_0 : List UInt8 := [3, 62, 29, 42, 180, 0, 28, 182, 0, 51, 162, 0, 52, 42, 180, 0, 28, 29, 182, 0, 55, 192, 0, 59]
abbrev dktX1_at_0 : List UInt8 := dkwX1_at_0 ++ dktX1_at_1
theorem dksX1_at_0 : cX1_at.data.toList.drop 0 = dktX1_at_0 := by decide +kernel
theorem dksX1_at_1 : cX1_at.data.toList.drop 24 = dktX1_at_1 := dk_seg dksX1_at_0 24 rfl rfl
theorem dksX1_at_2 : cX1_at.data.toList.drop 46 = dktX1_at_2 := dk_seg dksX1_at_1 22 rfl rfl
theorem dX1_at_0 : decode cX1_at 0 = .ok (.iconst 0, 1) := dk_3 (dk_at dksX1_at_0 0 rfl rfl)
theorem dX1_at_1 : decode cX1_at 1 = .ok (.istore_n 3, 1) := dk_62 (dk_at dksX1_at_0 1 rfl rfl)
theorem dX1_at_2 : decode cX1_at 2 = .ok (.iload_n 3, 1) := dk_29 (dk_at dksX1_at_0 2 rfl rfl)
theorem dX1_at_3 : decode cX1_at 3 = .ok (.aload_n 0, 1) := dk_42 (dk_at dksX1_at_0 3 rfl rfl)
theorem dX1_at_4 : decode cX1_at 4 = .ok (.getfield 28, 3) := dk_180 0 28 (dk_at dksX1_at_0 4 rfl rfl)
theorem dX1_at_7 : decode cX1_at 7 = .ok (.invokevirtual 51, 3) := dk_182 0 51 (dk_at dksX1_at_0 7 rfl rfl)
theorem dX1_at_10 : decode cX1_at 10 = .ok (.if_icmp .ge 52, 3) := dk_162 0 52 (dk_at dksX1_at_0 10 rfl rfl)
theorem dX1_at_13 : decode cX1_at 13 = .ok (.aload_n 0, 1) := dk_42 (dk_at dksX1_at_0 13 rfl rfl)
theorem dX1_at_14 : decode cX1_at 14 = .ok (.getfield 28, 3) := dk_180 0 28 (dk_at dksX1_at_0 14 rfl rfl)
theorem dX1_at_17 : decode cX1_at 17 = .ok (.iload_n 3, 1) := dk_29 (dk_at dksX1_at_0 17 rfl rfl)
theorem dX1_at_18 : decode cX1_at 18 = .ok (.invokevirtual 55, 3) := dk_182 0 55 (dk_at dksX1_at_0 18 rfl rfl)
theorem dX1_at_21 : decode cX1_at 21 = .ok (.checkcast 59, 3) := dk_192 0 59 (dk_at dksX1_at_0 21 rfl rfl)
theorem dX1_at_24 : decode cX1_at 24 = .ok (.astore 4, 2) := dk_58 4 (dk_at dksX1_at_1 0 rfl rfl)
theorem dX1_at_26 : decode cX1_at 26 = .ok (.aload 4, 2) := dk_25 4 (dk_at dksX1_at_1 2 rfl rfl)
theorem dX1_at_28 : decode cX1_at 28 = .ok (.getfield 73, 3) := dk_180 0 73 (dk_at dksX1_at_1 4 rfl rfl)
theorem dX1_at_31 : decode cX1_at 31 = .ok (.iconst (-1), 1) := dk_2 (dk_at dksX1_at_1 7 rfl rfl)
theorem dX1_at_32 : decode cX1_at 32 = .ok (.if_icmp .ne 24, 3) := dk_160 0 24 (dk_at dksX1_at_1 8 rfl rfl)
theorem dX1_at_35 : decode cX1_at 35 = .ok (.aload 4, 2) := dk_25 4 (dk_at dksX1_at_1 11 rfl rfl)
theorem dX1_at_37 : decode cX1_at 37 = .ok (.getfield 76, 3) := dk_180 0 76 (dk_at dksX1_at_1 13 rfl rfl)
theorem dX1_at_40 : decode cX1_at 40 = .ok (.iload_n 1, 1) := dk_27 (dk_at dksX1_at_1 16 rfl rfl)
theorem dX1_at_41 : decode cX1_at 41 = .ok (.if_icmp .ne 15, 3) := dk_160 0 15 (dk_at dksX1_at_1 17 rfl rfl)
theorem dX1_at_44 : decode cX1_at 44 = .ok (.aload 4, 2) := dk_25 4 (dk_at dksX1_at_1 20 rfl rfl)
theorem dX1_at_46 : decode cX1_at 46 = .ok (.getfield 79, 3) := dk_180 0 79 (dk_at dksX1_at_2 0 rfl rfl)
theorem dX1_at_49 : decode cX1_at 49 = .ok (.iload_n 2, 1) := dk_28 (dk_at dksX1_at_2 3 rfl rfl)
theorem dX1_at_50 : decode cX1_at 50 = .ok (.if_icmp .ne 6, 3) := dk_160 0 6 (dk_at dksX1_at_2 4 rfl rfl)
theorem dX1_at_53 : decode cX1_at 53 = .ok (.aload 4, 2) := dk_25 4 (dk_at dksX1_at_2 7 rfl rfl)
theorem dX1_at_55 : decode cX1_at 55 = .ok (.areturn, 1) := dk_176 (dk_at dksX1_at_2 9 rfl rfl)
theorem dX1_at_56 : decode cX1_at 56 = .ok (.iinc 3 1, 3) := dk_132 3 1 (dk_at dksX1_at_2 10 rfl rfl)
theorem dX1_at_59 : decode cX1_at 59 = .ok (.goto (-57), 3) := dk_167 255 199 (dk_at dksX1_at_2 13 rfl rfl)
theorem dX1_at_62 : decode cX1_at 62 = .ok (.aconst_null, 1) := dk_1 (dk_at dksX1_at_2 16 rfl rfl)
theorem dX1_at_63 : decode cX1_at 63 = .ok (.areturn, 1) := dk_176 (dk_at dksX1_at_2 17 rfl rfl)
abbrev cX1_isRim : ByteArray := prog_20_method_3_code
def yX1_isRim : MethodName := ⟨RX1, "isRim", "(II)Z"⟩
def dkwX1_isRim_1 : List UInt8 := [100, 160, 0, 7, 4, 167, 0, 4, 3, 172]
abbrev dktX1_isRim_1 : List UInt8 := dkwX1_isRim_1 ++ []
def dkwX1_isRim_0 : List UInt8 := [27, 153, 0, 27, 28, 153, 0, 23, 27, 42, 180, 0, 41, 4, 100, 159, 0, 13, 28, 42, 180, 0, 48, 4]
abbrev dktX1_isRim_0 : List UInt8 := dkwX1_isRim_0 ++ dktX1_isRim_1
theorem dksX1_isRim_0 : cX1_isRim.data.toList.drop 0 = dktX1_isRim_0 := by decide +kernel
theorem dksX1_isRim_1 : cX1_isRim.data.toList.drop 24 = dktX1_isRim_1 := dk_seg dksX1_isRim_0 24 rfl rfl
theorem dX1_isRim_0 : decode cX1_isRim 0 = .ok (.iload_n 1, 1) := dk_27 (dk_at dksX1_isRim_0 0 rfl rfl)
theorem dX1_isRim_1 : decode cX1_isRim 1 = .ok (.ifCond .eq 27, 3) := dk_153 0 27 (dk_at dksX1_isRim_0 1 rfl rfl)
theorem dX1_isRim_4 : decode cX1_isRim 4 = .ok (.iload_n 2, 1) := dk_28 (dk_at dksX1_isRim_0 4 rfl rfl)
theorem dX1_isRim_5 : decode cX1_isRim 5 = .ok (.ifCond .eq 23, 3) := dk_153 0 23 (dk_at dksX1_isRim_0 5 rfl rfl)
theorem dX1_isRim_8 : decode cX1_isRim 8 = .ok (.iload_n 1, 1) := dk_27 (dk_at dksX1_isRim_0 8 rfl rfl)
theorem dX1_isRim_9 : decode cX1_isRim 9 = .ok (.aload_n 0, 1) := dk_42 (dk_at dksX1_isRim_0 9 rfl rfl)
theorem dX1_isRim_10 : decode cX1_isRim 10 = .ok (.getfield 41, 3) := dk_180 0 41 (dk_at dksX1_isRim_0 10 rfl rfl)
theorem dX1_isRim_13 : decode cX1_isRim 13 = .ok (.iconst 1, 1) := dk_4 (dk_at dksX1_isRim_0 13 rfl rfl)
theorem dX1_isRim_14 : decode cX1_isRim 14 = .ok (.isub, 1) := dk_100 (dk_at dksX1_isRim_0 14 rfl rfl)
theorem dX1_isRim_15 : decode cX1_isRim 15 = .ok (.if_icmp .eq 13, 3) := dk_159 0 13 (dk_at dksX1_isRim_0 15 rfl rfl)
theorem dX1_isRim_18 : decode cX1_isRim 18 = .ok (.iload_n 2, 1) := dk_28 (dk_at dksX1_isRim_0 18 rfl rfl)
theorem dX1_isRim_19 : decode cX1_isRim 19 = .ok (.aload_n 0, 1) := dk_42 (dk_at dksX1_isRim_0 19 rfl rfl)
theorem dX1_isRim_20 : decode cX1_isRim 20 = .ok (.getfield 48, 3) := dk_180 0 48 (dk_at dksX1_isRim_0 20 rfl rfl)
theorem dX1_isRim_23 : decode cX1_isRim 23 = .ok (.iconst 1, 1) := dk_4 (dk_at dksX1_isRim_0 23 rfl rfl)
theorem dX1_isRim_24 : decode cX1_isRim 24 = .ok (.isub, 1) := dk_100 (dk_at dksX1_isRim_1 0 rfl rfl)
theorem dX1_isRim_25 : decode cX1_isRim 25 = .ok (.if_icmp .ne 7, 3) := dk_160 0 7 (dk_at dksX1_isRim_1 1 rfl rfl)
theorem dX1_isRim_28 : decode cX1_isRim 28 = .ok (.iconst 1, 1) := dk_4 (dk_at dksX1_isRim_1 4 rfl rfl)
theorem dX1_isRim_29 : decode cX1_isRim 29 = .ok (.goto 4, 3) := dk_167 0 4 (dk_at dksX1_isRim_1 5 rfl rfl)
theorem dX1_isRim_32 : decode cX1_isRim 32 = .ok (.iconst 0, 1) := dk_3 (dk_at dksX1_isRim_1 8 rfl rfl)
theorem dX1_isRim_33 : decode cX1_isRim 33 = .ok (.ireturn, 1) := dk_172 (dk_at dksX1_isRim_1 9 rfl rfl)
abbrev cX1_odds : ByteArray := prog_20_method_12_code
def yX1_odds : MethodName := ⟨RX1, "odds", "(LTubBites$Bobber;LTubBites$Apple;I)I"⟩
def dkwX1_odds_1 : List UInt8 := [180, 0, 17, 29, 50, 42, 180, 0, 37, 182, 0, 151, 184, 0, 155, 184, 0, 159, 172]
abbrev dktX1_odds_1 : List UInt8 := dkwX1_odds_1 ++ []
def dkwX1_odds_0 : List UInt8 := [42, 43, 44, 182, 0, 147, 42, 180, 0, 17, 29, 50, 199, 0, 8, 16, 50, 167, 0, 25, 3, 16, 100, 42]
abbrev dktX1_odds_0 : List UInt8 := dkwX1_odds_0 ++ dktX1_odds_1
theorem dksX1_odds_0 : cX1_odds.data.toList.drop 0 = dktX1_odds_0 := by decide +kernel
theorem dksX1_odds_1 : cX1_odds.data.toList.drop 24 = dktX1_odds_1 := dk_seg dksX1_odds_0 24 rfl rfl
theorem dX1_odds_0 : decode cX1_odds 0 = .ok (.aload_n 0, 1) := dk_42 (dk_at dksX1_odds_0 0 rfl rfl)
theorem dX1_odds_1 : decode cX1_odds 1 = .ok (.aload_n 1, 1) := dk_43 (dk_at dksX1_odds_0 1 rfl rfl)
theorem dX1_odds_2 : decode cX1_odds 2 = .ok (.aload_n 2, 1) := dk_44 (dk_at dksX1_odds_0 2 rfl rfl)
theorem dX1_odds_3 : decode cX1_odds 3 = .ok (.invokevirtual 147, 3) := dk_182 0 147 (dk_at dksX1_odds_0 3 rfl rfl)
theorem dX1_odds_6 : decode cX1_odds 6 = .ok (.aload_n 0, 1) := dk_42 (dk_at dksX1_odds_0 6 rfl rfl)
theorem dX1_odds_7 : decode cX1_odds 7 = .ok (.getfield 17, 3) := dk_180 0 17 (dk_at dksX1_odds_0 7 rfl rfl)
theorem dX1_odds_10 : decode cX1_odds 10 = .ok (.iload_n 3, 1) := dk_29 (dk_at dksX1_odds_0 10 rfl rfl)
theorem dX1_odds_11 : decode cX1_odds 11 = .ok (.aaload, 1) := dk_50 (dk_at dksX1_odds_0 11 rfl rfl)
theorem dX1_odds_12 : decode cX1_odds 12 = .ok (.ifnonnull 8, 3) := dk_199 0 8 (dk_at dksX1_odds_0 12 rfl rfl)
theorem dX1_odds_15 : decode cX1_odds 15 = .ok (.bipush 50, 2) := dk_16 50 (dk_at dksX1_odds_0 15 rfl rfl)
theorem dX1_odds_17 : decode cX1_odds 17 = .ok (.goto 25, 3) := dk_167 0 25 (dk_at dksX1_odds_0 17 rfl rfl)
theorem dX1_odds_20 : decode cX1_odds 20 = .ok (.iconst 0, 1) := dk_3 (dk_at dksX1_odds_0 20 rfl rfl)
theorem dX1_odds_21 : decode cX1_odds 21 = .ok (.bipush 100, 2) := dk_16 100 (dk_at dksX1_odds_0 21 rfl rfl)
theorem dX1_odds_23 : decode cX1_odds 23 = .ok (.aload_n 0, 1) := dk_42 (dk_at dksX1_odds_0 23 rfl rfl)
theorem dX1_odds_24 : decode cX1_odds 24 = .ok (.getfield 17, 3) := dk_180 0 17 (dk_at dksX1_odds_1 0 rfl rfl)
theorem dX1_odds_27 : decode cX1_odds 27 = .ok (.iload_n 3, 1) := dk_29 (dk_at dksX1_odds_1 3 rfl rfl)
theorem dX1_odds_28 : decode cX1_odds 28 = .ok (.aaload, 1) := dk_50 (dk_at dksX1_odds_1 4 rfl rfl)
theorem dX1_odds_29 : decode cX1_odds 29 = .ok (.aload_n 0, 1) := dk_42 (dk_at dksX1_odds_1 5 rfl rfl)
theorem dX1_odds_30 : decode cX1_odds 30 = .ok (.getfield 37, 3) := dk_180 0 37 (dk_at dksX1_odds_1 6 rfl rfl)
theorem dX1_odds_33 : decode cX1_odds 33 = .ok (.invokevirtual 151, 3) := dk_182 0 151 (dk_at dksX1_odds_1 9 rfl rfl)
theorem dX1_odds_36 : decode cX1_odds 36 = .ok (.invokestatic 155, 3) := dk_184 0 155 (dk_at dksX1_odds_1 12 rfl rfl)
theorem dX1_odds_39 : decode cX1_odds 39 = .ok (.invokestatic 159, 3) := dk_184 0 159 (dk_at dksX1_odds_1 15 rfl rfl)
theorem dX1_odds_42 : decode cX1_odds 42 = .ok (.ireturn, 1) := dk_172 (dk_at dksX1_odds_1 18 rfl rfl)
abbrev cX1_tell : ByteArray := prog_20_method_11_code
def yX1_tell : MethodName := ⟨RX1, "tell", "(LTubBites$Bobber;LTubBites$Apple;)V"⟩
def dkwX1_tell_6 : List UInt8 := [42, 180, 0, 37, 180, 0, 118, 16, 9, 3, 79, 177]
abbrev dktX1_tell_6 : List UInt8 := dkwX1_tell_6 ++ []
def dkwX1_tell_5 : List UInt8 := [180, 0, 37, 180, 0, 118, 16, 7, 43, 180, 0, 144, 79, 42, 180, 0, 37, 180, 0, 118, 16, 8, 3, 79]
abbrev dktX1_tell_5 : List UInt8 := dkwX1_tell_5 ++ dktX1_tell_6
def dkwX1_tell_4 : List UInt8 := [180, 0, 118, 8, 44, 180, 0, 138, 79, 42, 180, 0, 37, 180, 0, 118, 16, 6, 43, 180, 0, 141, 79, 42]
abbrev dktX1_tell_4 : List UInt8 := dkwX1_tell_4 ++ dktX1_tell_5
def dkwX1_tell_3 : List UInt8 := [4, 167, 0, 4, 3, 79, 42, 180, 0, 37, 180, 0, 118, 7, 43, 44, 182, 0, 134, 79, 42, 180, 0, 37]
abbrev dktX1_tell_3 : List UInt8 := dkwX1_tell_3 ++ dktX1_tell_4
def dkwX1_tell_2 : List UInt8 := [79, 42, 180, 0, 37, 180, 0, 118, 6, 42, 44, 180, 0, 76, 44, 180, 0, 79, 182, 0, 131, 153, 0, 7]
abbrev dktX1_tell_2 : List UInt8 := dkwX1_tell_2 ++ dktX1_tell_3
def dkwX1_tell_1 : List UInt8 := [180, 0, 124, 79, 42, 180, 0, 37, 180, 0, 118, 5, 44, 180, 0, 127, 153, 0, 7, 4, 167, 0, 4, 3]
abbrev dktX1_tell_1 : List UInt8 := dkwX1_tell_1 ++ dktX1_tell_2
def dkwX1_tell_0 : List UInt8 := [42, 180, 0, 37, 180, 0, 118, 3, 44, 180, 0, 122, 79, 42, 180, 0, 37, 180, 0, 118, 4, 44]
abbrev dktX1_tell_0 : List UInt8 := dkwX1_tell_0 ++ dktX1_tell_1
theorem dksX1_tell_0 : cX1_tell.data.toList.drop 0 = dktX1_tell_0 := by decide +kernel
theorem dksX1_tell_1 : cX1_tell.data.toList.drop 22 = dktX1_tell_1 := dk_seg dksX1_tell_0 22 rfl rfl
theorem dksX1_tell_2 : cX1_tell.data.toList.drop 46 = dktX1_tell_2 := dk_seg dksX1_tell_1 24 rfl rfl
theorem dksX1_tell_3 : cX1_tell.data.toList.drop 70 = dktX1_tell_3 := dk_seg dksX1_tell_2 24 rfl rfl
theorem dksX1_tell_4 : cX1_tell.data.toList.drop 94 = dktX1_tell_4 := dk_seg dksX1_tell_3 24 rfl rfl
theorem dksX1_tell_5 : cX1_tell.data.toList.drop 118 = dktX1_tell_5 := dk_seg dksX1_tell_4 24 rfl rfl
theorem dksX1_tell_6 : cX1_tell.data.toList.drop 142 = dktX1_tell_6 := dk_seg dksX1_tell_5 24 rfl rfl
theorem dX1_tell_0 : decode cX1_tell 0 = .ok (.aload_n 0, 1) := dk_42 (dk_at dksX1_tell_0 0 rfl rfl)
theorem dX1_tell_1 : decode cX1_tell 1 = .ok (.getfield 37, 3) := dk_180 0 37 (dk_at dksX1_tell_0 1 rfl rfl)
theorem dX1_tell_4 : decode cX1_tell 4 = .ok (.getfield 118, 3) := dk_180 0 118 (dk_at dksX1_tell_0 4 rfl rfl)
theorem dX1_tell_7 : decode cX1_tell 7 = .ok (.iconst 0, 1) := dk_3 (dk_at dksX1_tell_0 7 rfl rfl)
theorem dX1_tell_8 : decode cX1_tell 8 = .ok (.aload_n 2, 1) := dk_44 (dk_at dksX1_tell_0 8 rfl rfl)
theorem dX1_tell_9 : decode cX1_tell 9 = .ok (.getfield 122, 3) := dk_180 0 122 (dk_at dksX1_tell_0 9 rfl rfl)
theorem dX1_tell_12 : decode cX1_tell 12 = .ok (.iastore, 1) := dk_79 (dk_at dksX1_tell_0 12 rfl rfl)
theorem dX1_tell_13 : decode cX1_tell 13 = .ok (.aload_n 0, 1) := dk_42 (dk_at dksX1_tell_0 13 rfl rfl)
theorem dX1_tell_14 : decode cX1_tell 14 = .ok (.getfield 37, 3) := dk_180 0 37 (dk_at dksX1_tell_0 14 rfl rfl)
theorem dX1_tell_17 : decode cX1_tell 17 = .ok (.getfield 118, 3) := dk_180 0 118 (dk_at dksX1_tell_0 17 rfl rfl)
theorem dX1_tell_20 : decode cX1_tell 20 = .ok (.iconst 1, 1) := dk_4 (dk_at dksX1_tell_0 20 rfl rfl)
theorem dX1_tell_21 : decode cX1_tell 21 = .ok (.aload_n 2, 1) := dk_44 (dk_at dksX1_tell_0 21 rfl rfl)
theorem dX1_tell_22 : decode cX1_tell 22 = .ok (.getfield 124, 3) := dk_180 0 124 (dk_at dksX1_tell_1 0 rfl rfl)
theorem dX1_tell_25 : decode cX1_tell 25 = .ok (.iastore, 1) := dk_79 (dk_at dksX1_tell_1 3 rfl rfl)
theorem dX1_tell_26 : decode cX1_tell 26 = .ok (.aload_n 0, 1) := dk_42 (dk_at dksX1_tell_1 4 rfl rfl)
theorem dX1_tell_27 : decode cX1_tell 27 = .ok (.getfield 37, 3) := dk_180 0 37 (dk_at dksX1_tell_1 5 rfl rfl)
theorem dX1_tell_30 : decode cX1_tell 30 = .ok (.getfield 118, 3) := dk_180 0 118 (dk_at dksX1_tell_1 8 rfl rfl)
theorem dX1_tell_33 : decode cX1_tell 33 = .ok (.iconst 2, 1) := dk_5 (dk_at dksX1_tell_1 11 rfl rfl)
theorem dX1_tell_34 : decode cX1_tell 34 = .ok (.aload_n 2, 1) := dk_44 (dk_at dksX1_tell_1 12 rfl rfl)
theorem dX1_tell_35 : decode cX1_tell 35 = .ok (.getfield 127, 3) := dk_180 0 127 (dk_at dksX1_tell_1 13 rfl rfl)
theorem dX1_tell_38 : decode cX1_tell 38 = .ok (.ifCond .eq 7, 3) := dk_153 0 7 (dk_at dksX1_tell_1 16 rfl rfl)
theorem dX1_tell_41 : decode cX1_tell 41 = .ok (.iconst 1, 1) := dk_4 (dk_at dksX1_tell_1 19 rfl rfl)
theorem dX1_tell_42 : decode cX1_tell 42 = .ok (.goto 4, 3) := dk_167 0 4 (dk_at dksX1_tell_1 20 rfl rfl)
theorem dX1_tell_45 : decode cX1_tell 45 = .ok (.iconst 0, 1) := dk_3 (dk_at dksX1_tell_1 23 rfl rfl)
theorem dX1_tell_46 : decode cX1_tell 46 = .ok (.iastore, 1) := dk_79 (dk_at dksX1_tell_2 0 rfl rfl)
theorem dX1_tell_47 : decode cX1_tell 47 = .ok (.aload_n 0, 1) := dk_42 (dk_at dksX1_tell_2 1 rfl rfl)
theorem dX1_tell_48 : decode cX1_tell 48 = .ok (.getfield 37, 3) := dk_180 0 37 (dk_at dksX1_tell_2 2 rfl rfl)
theorem dX1_tell_51 : decode cX1_tell 51 = .ok (.getfield 118, 3) := dk_180 0 118 (dk_at dksX1_tell_2 5 rfl rfl)
theorem dX1_tell_54 : decode cX1_tell 54 = .ok (.iconst 3, 1) := dk_6 (dk_at dksX1_tell_2 8 rfl rfl)
theorem dX1_tell_55 : decode cX1_tell 55 = .ok (.aload_n 0, 1) := dk_42 (dk_at dksX1_tell_2 9 rfl rfl)
theorem dX1_tell_56 : decode cX1_tell 56 = .ok (.aload_n 2, 1) := dk_44 (dk_at dksX1_tell_2 10 rfl rfl)
theorem dX1_tell_57 : decode cX1_tell 57 = .ok (.getfield 76, 3) := dk_180 0 76 (dk_at dksX1_tell_2 11 rfl rfl)
theorem dX1_tell_60 : decode cX1_tell 60 = .ok (.aload_n 2, 1) := dk_44 (dk_at dksX1_tell_2 14 rfl rfl)
theorem dX1_tell_61 : decode cX1_tell 61 = .ok (.getfield 79, 3) := dk_180 0 79 (dk_at dksX1_tell_2 15 rfl rfl)
theorem dX1_tell_64 : decode cX1_tell 64 = .ok (.invokevirtual 131, 3) := dk_182 0 131 (dk_at dksX1_tell_2 18 rfl rfl)
theorem dX1_tell_67 : decode cX1_tell 67 = .ok (.ifCond .eq 7, 3) := dk_153 0 7 (dk_at dksX1_tell_2 21 rfl rfl)
theorem dX1_tell_70 : decode cX1_tell 70 = .ok (.iconst 1, 1) := dk_4 (dk_at dksX1_tell_3 0 rfl rfl)
theorem dX1_tell_71 : decode cX1_tell 71 = .ok (.goto 4, 3) := dk_167 0 4 (dk_at dksX1_tell_3 1 rfl rfl)
theorem dX1_tell_74 : decode cX1_tell 74 = .ok (.iconst 0, 1) := dk_3 (dk_at dksX1_tell_3 4 rfl rfl)
theorem dX1_tell_75 : decode cX1_tell 75 = .ok (.iastore, 1) := dk_79 (dk_at dksX1_tell_3 5 rfl rfl)
theorem dX1_tell_76 : decode cX1_tell 76 = .ok (.aload_n 0, 1) := dk_42 (dk_at dksX1_tell_3 6 rfl rfl)
theorem dX1_tell_77 : decode cX1_tell 77 = .ok (.getfield 37, 3) := dk_180 0 37 (dk_at dksX1_tell_3 7 rfl rfl)
theorem dX1_tell_80 : decode cX1_tell 80 = .ok (.getfield 118, 3) := dk_180 0 118 (dk_at dksX1_tell_3 10 rfl rfl)
theorem dX1_tell_83 : decode cX1_tell 83 = .ok (.iconst 4, 1) := dk_7 (dk_at dksX1_tell_3 13 rfl rfl)
theorem dX1_tell_84 : decode cX1_tell 84 = .ok (.aload_n 1, 1) := dk_43 (dk_at dksX1_tell_3 14 rfl rfl)
theorem dX1_tell_85 : decode cX1_tell 85 = .ok (.aload_n 2, 1) := dk_44 (dk_at dksX1_tell_3 15 rfl rfl)
theorem dX1_tell_86 : decode cX1_tell 86 = .ok (.invokevirtual 134, 3) := dk_182 0 134 (dk_at dksX1_tell_3 16 rfl rfl)
theorem dX1_tell_89 : decode cX1_tell 89 = .ok (.iastore, 1) := dk_79 (dk_at dksX1_tell_3 19 rfl rfl)
theorem dX1_tell_90 : decode cX1_tell 90 = .ok (.aload_n 0, 1) := dk_42 (dk_at dksX1_tell_3 20 rfl rfl)
theorem dX1_tell_91 : decode cX1_tell 91 = .ok (.getfield 37, 3) := dk_180 0 37 (dk_at dksX1_tell_3 21 rfl rfl)
theorem dX1_tell_94 : decode cX1_tell 94 = .ok (.getfield 118, 3) := dk_180 0 118 (dk_at dksX1_tell_4 0 rfl rfl)
theorem dX1_tell_97 : decode cX1_tell 97 = .ok (.iconst 5, 1) := dk_8 (dk_at dksX1_tell_4 3 rfl rfl)
theorem dX1_tell_98 : decode cX1_tell 98 = .ok (.aload_n 2, 1) := dk_44 (dk_at dksX1_tell_4 4 rfl rfl)
theorem dX1_tell_99 : decode cX1_tell 99 = .ok (.getfield 138, 3) := dk_180 0 138 (dk_at dksX1_tell_4 5 rfl rfl)
theorem dX1_tell_102 : decode cX1_tell 102 = .ok (.iastore, 1) := dk_79 (dk_at dksX1_tell_4 8 rfl rfl)
theorem dX1_tell_103 : decode cX1_tell 103 = .ok (.aload_n 0, 1) := dk_42 (dk_at dksX1_tell_4 9 rfl rfl)
theorem dX1_tell_104 : decode cX1_tell 104 = .ok (.getfield 37, 3) := dk_180 0 37 (dk_at dksX1_tell_4 10 rfl rfl)
theorem dX1_tell_107 : decode cX1_tell 107 = .ok (.getfield 118, 3) := dk_180 0 118 (dk_at dksX1_tell_4 13 rfl rfl)
theorem dX1_tell_110 : decode cX1_tell 110 = .ok (.bipush 6, 2) := dk_16 6 (dk_at dksX1_tell_4 16 rfl rfl)
theorem dX1_tell_112 : decode cX1_tell 112 = .ok (.aload_n 1, 1) := dk_43 (dk_at dksX1_tell_4 18 rfl rfl)
theorem dX1_tell_113 : decode cX1_tell 113 = .ok (.getfield 141, 3) := dk_180 0 141 (dk_at dksX1_tell_4 19 rfl rfl)
theorem dX1_tell_116 : decode cX1_tell 116 = .ok (.iastore, 1) := dk_79 (dk_at dksX1_tell_4 22 rfl rfl)
theorem dX1_tell_117 : decode cX1_tell 117 = .ok (.aload_n 0, 1) := dk_42 (dk_at dksX1_tell_4 23 rfl rfl)
theorem dX1_tell_118 : decode cX1_tell 118 = .ok (.getfield 37, 3) := dk_180 0 37 (dk_at dksX1_tell_5 0 rfl rfl)
theorem dX1_tell_121 : decode cX1_tell 121 = .ok (.getfield 118, 3) := dk_180 0 118 (dk_at dksX1_tell_5 3 rfl rfl)
theorem dX1_tell_124 : decode cX1_tell 124 = .ok (.bipush 7, 2) := dk_16 7 (dk_at dksX1_tell_5 6 rfl rfl)
theorem dX1_tell_126 : decode cX1_tell 126 = .ok (.aload_n 1, 1) := dk_43 (dk_at dksX1_tell_5 8 rfl rfl)
theorem dX1_tell_127 : decode cX1_tell 127 = .ok (.getfield 144, 3) := dk_180 0 144 (dk_at dksX1_tell_5 9 rfl rfl)
theorem dX1_tell_130 : decode cX1_tell 130 = .ok (.iastore, 1) := dk_79 (dk_at dksX1_tell_5 12 rfl rfl)
theorem dX1_tell_131 : decode cX1_tell 131 = .ok (.aload_n 0, 1) := dk_42 (dk_at dksX1_tell_5 13 rfl rfl)
theorem dX1_tell_132 : decode cX1_tell 132 = .ok (.getfield 37, 3) := dk_180 0 37 (dk_at dksX1_tell_5 14 rfl rfl)
theorem dX1_tell_135 : decode cX1_tell 135 = .ok (.getfield 118, 3) := dk_180 0 118 (dk_at dksX1_tell_5 17 rfl rfl)
theorem dX1_tell_138 : decode cX1_tell 138 = .ok (.bipush 8, 2) := dk_16 8 (dk_at dksX1_tell_5 20 rfl rfl)
theorem dX1_tell_140 : decode cX1_tell 140 = .ok (.iconst 0, 1) := dk_3 (dk_at dksX1_tell_5 22 rfl rfl)
theorem dX1_tell_141 : decode cX1_tell 141 = .ok (.iastore, 1) := dk_79 (dk_at dksX1_tell_5 23 rfl rfl)
theorem dX1_tell_142 : decode cX1_tell 142 = .ok (.aload_n 0, 1) := dk_42 (dk_at dksX1_tell_6 0 rfl rfl)
theorem dX1_tell_143 : decode cX1_tell 143 = .ok (.getfield 37, 3) := dk_180 0 37 (dk_at dksX1_tell_6 1 rfl rfl)
theorem dX1_tell_146 : decode cX1_tell 146 = .ok (.getfield 118, 3) := dk_180 0 118 (dk_at dksX1_tell_6 4 rfl rfl)
theorem dX1_tell_149 : decode cX1_tell 149 = .ok (.bipush 9, 2) := dk_16 9 (dk_at dksX1_tell_6 7 rfl rfl)
theorem dX1_tell_151 : decode cX1_tell 151 = .ok (.iconst 0, 1) := dk_3 (dk_at dksX1_tell_6 9 rfl rfl)
theorem dX1_tell_152 : decode cX1_tell 152 = .ok (.iastore, 1) := dk_79 (dk_at dksX1_tell_6 10 rfl rfl)
theorem dX1_tell_153 : decode cX1_tell 153 = .ok (.return_, 1) := dk_177 (dk_at dksX1_tell_6 11 rfl rfl)
abbrev cX1_chooses : ByteArray := prog_20_method_15_code
def yX1_chooses : MethodName := ⟨RX1, "chooses", "(LTubBites$Rule;LTubBites$Bobber;)I"⟩
def dkwX1_chooses_5 : List UInt8 := [167, 255, 165, 132, 5, 1, 167, 255, 144, 29, 172]
abbrev dktX1_chooses_5 : List UInt8 := dkwX1_chooses_5 ++ []
def dkwX1_chooses_4 : List UInt8 := [163, 0, 6, 167, 0, 16, 16, 10, 21, 5, 104, 21, 6, 96, 62, 21, 7, 54, 4, 132, 6, 1]
abbrev dktX1_chooses_4 : List UInt8 := dkwX1_chooses_4 ++ dktX1_chooses_5
def dkwX1_chooses_3 : List UInt8 := [21, 5, 182, 0, 55, 192, 0, 59, 21, 6, 182, 0, 190, 54, 7, 29, 155, 0, 13, 21, 7, 21, 4]
abbrev dktX1_chooses_3 : List UInt8 := dkwX1_chooses_3 ++ dktX1_chooses_4
def dkwX1_chooses_2 : List UInt8 := [182, 0, 186, 154, 0, 6, 167, 0, 60, 43, 199, 0, 7, 3, 167, 0, 23, 42, 43, 44, 42, 180, 0, 28]
abbrev dktX1_chooses_2 : List UInt8 := dkwX1_chooses_2 ++ dktX1_chooses_3
def dkwX1_chooses_1 : List UInt8 := [21, 6, 8, 162, 0, 91, 42, 44, 42, 180, 0, 28, 21, 5, 182, 0, 55, 192, 0, 59, 21, 6]
abbrev dktX1_chooses_1 : List UInt8 := dkwX1_chooses_1 ++ dktX1_chooses_2
def dkwX1_chooses_0 : List UInt8 := [2, 62, 3, 54, 4, 3, 54, 5, 21, 5, 42, 180, 0, 28, 182, 0, 51, 162, 0, 106, 3, 54, 6]
abbrev dktX1_chooses_0 : List UInt8 := dkwX1_chooses_0 ++ dktX1_chooses_1
theorem dksX1_chooses_0 : cX1_chooses.data.toList.drop 0 = dktX1_chooses_0 := by decide +kernel
theorem dksX1_chooses_1 : cX1_chooses.data.toList.drop 23 = dktX1_chooses_1 := dk_seg dksX1_chooses_0 23 rfl rfl
theorem dksX1_chooses_2 : cX1_chooses.data.toList.drop 45 = dktX1_chooses_2 := dk_seg dksX1_chooses_1 22 rfl rfl
theorem dksX1_chooses_3 : cX1_chooses.data.toList.drop 69 = dktX1_chooses_3 := dk_seg dksX1_chooses_2 24 rfl rfl
theorem dksX1_chooses_4 : cX1_chooses.data.toList.drop 92 = dktX1_chooses_4 := dk_seg dksX1_chooses_3 23 rfl rfl
theorem dksX1_chooses_5 : cX1_chooses.data.toList.drop 114 = dktX1_chooses_5 := dk_seg dksX1_chooses_4 22 rfl rfl
theorem dX1_chooses_0 : decode cX1_chooses 0 = .ok (.iconst (-1), 1) := dk_2 (dk_at dksX1_chooses_0 0 rfl rfl)
theorem dX1_chooses_1 : decode cX1_chooses 1 = .ok (.istore_n 3, 1) := dk_62 (dk_at dksX1_chooses_0 1 rfl rfl)
theorem dX1_chooses_2 : decode cX1_chooses 2 = .ok (.iconst 0, 1) := dk_3 (dk_at dksX1_chooses_0 2 rfl rfl)
theorem dX1_chooses_3 : decode cX1_chooses 3 = .ok (.istore 4, 2) := dk_54 4 (dk_at dksX1_chooses_0 3 rfl rfl)
theorem dX1_chooses_5 : decode cX1_chooses 5 = .ok (.iconst 0, 1) := dk_3 (dk_at dksX1_chooses_0 5 rfl rfl)
theorem dX1_chooses_6 : decode cX1_chooses 6 = .ok (.istore 5, 2) := dk_54 5 (dk_at dksX1_chooses_0 6 rfl rfl)
theorem dX1_chooses_8 : decode cX1_chooses 8 = .ok (.iload 5, 2) := dk_21 5 (dk_at dksX1_chooses_0 8 rfl rfl)
theorem dX1_chooses_10 : decode cX1_chooses 10 = .ok (.aload_n 0, 1) := dk_42 (dk_at dksX1_chooses_0 10 rfl rfl)
theorem dX1_chooses_11 : decode cX1_chooses 11 = .ok (.getfield 28, 3) := dk_180 0 28 (dk_at dksX1_chooses_0 11 rfl rfl)
theorem dX1_chooses_14 : decode cX1_chooses 14 = .ok (.invokevirtual 51, 3) := dk_182 0 51 (dk_at dksX1_chooses_0 14 rfl rfl)
theorem dX1_chooses_17 : decode cX1_chooses 17 = .ok (.if_icmp .ge 106, 3) := dk_162 0 106 (dk_at dksX1_chooses_0 17 rfl rfl)
theorem dX1_chooses_20 : decode cX1_chooses 20 = .ok (.iconst 0, 1) := dk_3 (dk_at dksX1_chooses_0 20 rfl rfl)
theorem dX1_chooses_21 : decode cX1_chooses 21 = .ok (.istore 6, 2) := dk_54 6 (dk_at dksX1_chooses_0 21 rfl rfl)
theorem dX1_chooses_23 : decode cX1_chooses 23 = .ok (.iload 6, 2) := dk_21 6 (dk_at dksX1_chooses_1 0 rfl rfl)
theorem dX1_chooses_25 : decode cX1_chooses 25 = .ok (.iconst 5, 1) := dk_8 (dk_at dksX1_chooses_1 2 rfl rfl)
theorem dX1_chooses_26 : decode cX1_chooses 26 = .ok (.if_icmp .ge 91, 3) := dk_162 0 91 (dk_at dksX1_chooses_1 3 rfl rfl)
theorem dX1_chooses_29 : decode cX1_chooses 29 = .ok (.aload_n 0, 1) := dk_42 (dk_at dksX1_chooses_1 6 rfl rfl)
theorem dX1_chooses_30 : decode cX1_chooses 30 = .ok (.aload_n 2, 1) := dk_44 (dk_at dksX1_chooses_1 7 rfl rfl)
theorem dX1_chooses_31 : decode cX1_chooses 31 = .ok (.aload_n 0, 1) := dk_42 (dk_at dksX1_chooses_1 8 rfl rfl)
theorem dX1_chooses_32 : decode cX1_chooses 32 = .ok (.getfield 28, 3) := dk_180 0 28 (dk_at dksX1_chooses_1 9 rfl rfl)
theorem dX1_chooses_35 : decode cX1_chooses 35 = .ok (.iload 5, 2) := dk_21 5 (dk_at dksX1_chooses_1 12 rfl rfl)
theorem dX1_chooses_37 : decode cX1_chooses 37 = .ok (.invokevirtual 55, 3) := dk_182 0 55 (dk_at dksX1_chooses_1 14 rfl rfl)
theorem dX1_chooses_40 : decode cX1_chooses 40 = .ok (.checkcast 59, 3) := dk_192 0 59 (dk_at dksX1_chooses_1 17 rfl rfl)
theorem dX1_chooses_43 : decode cX1_chooses 43 = .ok (.iload 6, 2) := dk_21 6 (dk_at dksX1_chooses_1 20 rfl rfl)
theorem dX1_chooses_45 : decode cX1_chooses 45 = .ok (.invokevirtual 186, 3) := dk_182 0 186 (dk_at dksX1_chooses_2 0 rfl rfl)
theorem dX1_chooses_48 : decode cX1_chooses 48 = .ok (.ifCond .ne 6, 3) := dk_154 0 6 (dk_at dksX1_chooses_2 3 rfl rfl)
theorem dX1_chooses_51 : decode cX1_chooses 51 = .ok (.goto 60, 3) := dk_167 0 60 (dk_at dksX1_chooses_2 6 rfl rfl)
theorem dX1_chooses_54 : decode cX1_chooses 54 = .ok (.aload_n 1, 1) := dk_43 (dk_at dksX1_chooses_2 9 rfl rfl)
theorem dX1_chooses_55 : decode cX1_chooses 55 = .ok (.ifnonnull 7, 3) := dk_199 0 7 (dk_at dksX1_chooses_2 10 rfl rfl)
theorem dX1_chooses_58 : decode cX1_chooses 58 = .ok (.iconst 0, 1) := dk_3 (dk_at dksX1_chooses_2 13 rfl rfl)
theorem dX1_chooses_59 : decode cX1_chooses 59 = .ok (.goto 23, 3) := dk_167 0 23 (dk_at dksX1_chooses_2 14 rfl rfl)
theorem dX1_chooses_62 : decode cX1_chooses 62 = .ok (.aload_n 0, 1) := dk_42 (dk_at dksX1_chooses_2 17 rfl rfl)
theorem dX1_chooses_63 : decode cX1_chooses 63 = .ok (.aload_n 1, 1) := dk_43 (dk_at dksX1_chooses_2 18 rfl rfl)
theorem dX1_chooses_64 : decode cX1_chooses 64 = .ok (.aload_n 2, 1) := dk_44 (dk_at dksX1_chooses_2 19 rfl rfl)
theorem dX1_chooses_65 : decode cX1_chooses 65 = .ok (.aload_n 0, 1) := dk_42 (dk_at dksX1_chooses_2 20 rfl rfl)
theorem dX1_chooses_66 : decode cX1_chooses 66 = .ok (.getfield 28, 3) := dk_180 0 28 (dk_at dksX1_chooses_2 21 rfl rfl)
theorem dX1_chooses_69 : decode cX1_chooses 69 = .ok (.iload 5, 2) := dk_21 5 (dk_at dksX1_chooses_3 0 rfl rfl)
theorem dX1_chooses_71 : decode cX1_chooses 71 = .ok (.invokevirtual 55, 3) := dk_182 0 55 (dk_at dksX1_chooses_3 2 rfl rfl)
theorem dX1_chooses_74 : decode cX1_chooses 74 = .ok (.checkcast 59, 3) := dk_192 0 59 (dk_at dksX1_chooses_3 5 rfl rfl)
theorem dX1_chooses_77 : decode cX1_chooses 77 = .ok (.iload 6, 2) := dk_21 6 (dk_at dksX1_chooses_3 8 rfl rfl)
theorem dX1_chooses_79 : decode cX1_chooses 79 = .ok (.invokevirtual 190, 3) := dk_182 0 190 (dk_at dksX1_chooses_3 10 rfl rfl)
theorem dX1_chooses_82 : decode cX1_chooses 82 = .ok (.istore 7, 2) := dk_54 7 (dk_at dksX1_chooses_3 13 rfl rfl)
theorem dX1_chooses_84 : decode cX1_chooses 84 = .ok (.iload_n 3, 1) := dk_29 (dk_at dksX1_chooses_3 15 rfl rfl)
theorem dX1_chooses_85 : decode cX1_chooses 85 = .ok (.ifCond .lt 13, 3) := dk_155 0 13 (dk_at dksX1_chooses_3 16 rfl rfl)
theorem dX1_chooses_88 : decode cX1_chooses 88 = .ok (.iload 7, 2) := dk_21 7 (dk_at dksX1_chooses_3 19 rfl rfl)
theorem dX1_chooses_90 : decode cX1_chooses 90 = .ok (.iload 4, 2) := dk_21 4 (dk_at dksX1_chooses_3 21 rfl rfl)
theorem dX1_chooses_92 : decode cX1_chooses 92 = .ok (.if_icmp .gt 6, 3) := dk_163 0 6 (dk_at dksX1_chooses_4 0 rfl rfl)
theorem dX1_chooses_95 : decode cX1_chooses 95 = .ok (.goto 16, 3) := dk_167 0 16 (dk_at dksX1_chooses_4 3 rfl rfl)
theorem dX1_chooses_98 : decode cX1_chooses 98 = .ok (.bipush 10, 2) := dk_16 10 (dk_at dksX1_chooses_4 6 rfl rfl)
theorem dX1_chooses_100 : decode cX1_chooses 100 = .ok (.iload 5, 2) := dk_21 5 (dk_at dksX1_chooses_4 8 rfl rfl)
theorem dX1_chooses_102 : decode cX1_chooses 102 = .ok (.imul, 1) := dk_104 (dk_at dksX1_chooses_4 10 rfl rfl)
theorem dX1_chooses_103 : decode cX1_chooses 103 = .ok (.iload 6, 2) := dk_21 6 (dk_at dksX1_chooses_4 11 rfl rfl)
theorem dX1_chooses_105 : decode cX1_chooses 105 = .ok (.iadd, 1) := dk_96 (dk_at dksX1_chooses_4 13 rfl rfl)
theorem dX1_chooses_106 : decode cX1_chooses 106 = .ok (.istore_n 3, 1) := dk_62 (dk_at dksX1_chooses_4 14 rfl rfl)
theorem dX1_chooses_107 : decode cX1_chooses 107 = .ok (.iload 7, 2) := dk_21 7 (dk_at dksX1_chooses_4 15 rfl rfl)
theorem dX1_chooses_109 : decode cX1_chooses 109 = .ok (.istore 4, 2) := dk_54 4 (dk_at dksX1_chooses_4 17 rfl rfl)
theorem dX1_chooses_111 : decode cX1_chooses 111 = .ok (.iinc 6 1, 3) := dk_132 6 1 (dk_at dksX1_chooses_4 19 rfl rfl)
theorem dX1_chooses_114 : decode cX1_chooses 114 = .ok (.goto (-91), 3) := dk_167 255 165 (dk_at dksX1_chooses_5 0 rfl rfl)
theorem dX1_chooses_117 : decode cX1_chooses 117 = .ok (.iinc 5 1, 3) := dk_132 5 1 (dk_at dksX1_chooses_5 3 rfl rfl)
theorem dX1_chooses_120 : decode cX1_chooses 120 = .ok (.goto (-112), 3) := dk_167 255 144 (dk_at dksX1_chooses_5 6 rfl rfl)
theorem dX1_chooses_123 : decode cX1_chooses 123 = .ok (.iload_n 3, 1) := dk_29 (dk_at dksX1_chooses_5 9 rfl rfl)
theorem dX1_chooses_124 : decode cX1_chooses 124 = .ok (.ireturn, 1) := dk_172 (dk_at dksX1_chooses_5 10 rfl rfl)
abbrev cX1_value : ByteArray := prog_20_method_14_code
def yX1_value : MethodName := ⟨RX1, "value", "(LTubBites$Rule;LTubBites$Bobber;LTubBites$Apple;I)I"⟩
def dkwX1_value_1 : List UInt8 := [180, 0, 37, 180, 0, 118, 16, 9, 21, 5, 79, 43, 180, 0, 180, 42, 180, 0, 37, 182, 0, 151, 172]
abbrev dktX1_value_1 : List UInt8 := dkwX1_value_1 ++ []
def dkwX1_value_0 : List UInt8 := [42, 44, 45, 21, 4, 182, 0, 177, 54, 5, 42, 180, 0, 37, 180, 0, 118, 16, 8, 21, 4, 79, 42]
abbrev dktX1_value_0 : List UInt8 := dkwX1_value_0 ++ dktX1_value_1
theorem dksX1_value_0 : cX1_value.data.toList.drop 0 = dktX1_value_0 := by decide +kernel
theorem dksX1_value_1 : cX1_value.data.toList.drop 23 = dktX1_value_1 := dk_seg dksX1_value_0 23 rfl rfl
theorem dX1_value_0 : decode cX1_value 0 = .ok (.aload_n 0, 1) := dk_42 (dk_at dksX1_value_0 0 rfl rfl)
theorem dX1_value_1 : decode cX1_value 1 = .ok (.aload_n 2, 1) := dk_44 (dk_at dksX1_value_0 1 rfl rfl)
theorem dX1_value_2 : decode cX1_value 2 = .ok (.aload_n 3, 1) := dk_45 (dk_at dksX1_value_0 2 rfl rfl)
theorem dX1_value_3 : decode cX1_value 3 = .ok (.iload 4, 2) := dk_21 4 (dk_at dksX1_value_0 3 rfl rfl)
theorem dX1_value_5 : decode cX1_value 5 = .ok (.invokevirtual 177, 3) := dk_182 0 177 (dk_at dksX1_value_0 5 rfl rfl)
theorem dX1_value_8 : decode cX1_value 8 = .ok (.istore 5, 2) := dk_54 5 (dk_at dksX1_value_0 8 rfl rfl)
theorem dX1_value_10 : decode cX1_value 10 = .ok (.aload_n 0, 1) := dk_42 (dk_at dksX1_value_0 10 rfl rfl)
theorem dX1_value_11 : decode cX1_value 11 = .ok (.getfield 37, 3) := dk_180 0 37 (dk_at dksX1_value_0 11 rfl rfl)
theorem dX1_value_14 : decode cX1_value 14 = .ok (.getfield 118, 3) := dk_180 0 118 (dk_at dksX1_value_0 14 rfl rfl)
theorem dX1_value_17 : decode cX1_value 17 = .ok (.bipush 8, 2) := dk_16 8 (dk_at dksX1_value_0 17 rfl rfl)
theorem dX1_value_19 : decode cX1_value 19 = .ok (.iload 4, 2) := dk_21 4 (dk_at dksX1_value_0 19 rfl rfl)
theorem dX1_value_21 : decode cX1_value 21 = .ok (.iastore, 1) := dk_79 (dk_at dksX1_value_0 21 rfl rfl)
theorem dX1_value_22 : decode cX1_value 22 = .ok (.aload_n 0, 1) := dk_42 (dk_at dksX1_value_0 22 rfl rfl)
theorem dX1_value_23 : decode cX1_value 23 = .ok (.getfield 37, 3) := dk_180 0 37 (dk_at dksX1_value_1 0 rfl rfl)
theorem dX1_value_26 : decode cX1_value 26 = .ok (.getfield 118, 3) := dk_180 0 118 (dk_at dksX1_value_1 3 rfl rfl)
theorem dX1_value_29 : decode cX1_value 29 = .ok (.bipush 9, 2) := dk_16 9 (dk_at dksX1_value_1 6 rfl rfl)
theorem dX1_value_31 : decode cX1_value 31 = .ok (.iload 5, 2) := dk_21 5 (dk_at dksX1_value_1 8 rfl rfl)
theorem dX1_value_33 : decode cX1_value 33 = .ok (.iastore, 1) := dk_79 (dk_at dksX1_value_1 10 rfl rfl)
theorem dX1_value_34 : decode cX1_value 34 = .ok (.aload_n 1, 1) := dk_43 (dk_at dksX1_value_1 11 rfl rfl)
theorem dX1_value_35 : decode cX1_value 35 = .ok (.getfield 180, 3) := dk_180 0 180 (dk_at dksX1_value_1 12 rfl rfl)
theorem dX1_value_38 : decode cX1_value 38 = .ok (.aload_n 0, 1) := dk_42 (dk_at dksX1_value_1 15 rfl rfl)
theorem dX1_value_39 : decode cX1_value 39 = .ok (.getfield 37, 3) := dk_180 0 37 (dk_at dksX1_value_1 16 rfl rfl)
theorem dX1_value_42 : decode cX1_value 42 = .ok (.invokevirtual 151, 3) := dk_182 0 151 (dk_at dksX1_value_1 19 rfl rfl)
theorem dX1_value_45 : decode cX1_value 45 = .ok (.ireturn, 1) := dk_172 (dk_at dksX1_value_1 22 rfl rfl)
abbrev cX1_keep : ByteArray := prog_20_method_23_code
def yX1_keep : MethodName := ⟨RX1, "keep", "()[I"⟩
def dkwX1_keep_0 : List UInt8 := [16, 123, 188, 10, 76, 42, 43, 3, 182, 0, 229, 43, 176]
abbrev dktX1_keep_0 : List UInt8 := dkwX1_keep_0 ++ []
theorem dksX1_keep_0 : cX1_keep.data.toList.drop 0 = dktX1_keep_0 := by decide +kernel
theorem dX1_keep_0 : decode cX1_keep 0 = .ok (.bipush 123, 2) := dk_16 123 (dk_at dksX1_keep_0 0 rfl rfl)
theorem dX1_keep_2 : decode cX1_keep 2 = .ok (.newarray .int, 2) := dk_188_10 (dk_at dksX1_keep_0 2 rfl rfl)
theorem dX1_keep_4 : decode cX1_keep 4 = .ok (.astore_n 1, 1) := dk_76 (dk_at dksX1_keep_0 4 rfl rfl)
theorem dX1_keep_5 : decode cX1_keep 5 = .ok (.aload_n 0, 1) := dk_42 (dk_at dksX1_keep_0 5 rfl rfl)
theorem dX1_keep_6 : decode cX1_keep 6 = .ok (.aload_n 1, 1) := dk_43 (dk_at dksX1_keep_0 6 rfl rfl)
theorem dX1_keep_7 : decode cX1_keep 7 = .ok (.iconst 0, 1) := dk_3 (dk_at dksX1_keep_0 7 rfl rfl)
theorem dX1_keep_8 : decode cX1_keep 8 = .ok (.invokevirtual 229, 3) := dk_182 0 229 (dk_at dksX1_keep_0 8 rfl rfl)
theorem dX1_keep_11 : decode cX1_keep 11 = .ok (.aload_n 1, 1) := dk_43 (dk_at dksX1_keep_0 11 rfl rfl)
theorem dX1_keep_12 : decode cX1_keep 12 = .ok (.areturn, 1) := dk_176 (dk_at dksX1_keep_0 12 rfl rfl)
abbrev cX1_keepAt : ByteArray := prog_20_method_24_code
def yX1_keepAt : MethodName := ⟨RX1, "keepAt", "([II)V"⟩
def dkwX1_keepAt_8 : List UInt8 := [16, 15, 29, 104, 96, 16, 15, 184, 0, 233, 132, 3, 1, 167, 255, 163, 177]
abbrev dktX1_keepAt_8 : List UInt8 := dkwX1_keepAt_8 ++ []
def dkwX1_keepAt_7 : List UInt8 := [16, 53, 96, 6, 29, 104, 96, 25, 4, 180, 0, 194, 79, 25, 4, 180, 0, 203, 3, 43, 28, 16, 63, 96]
abbrev dktX1_keepAt_7 : List UInt8 := dkwX1_keepAt_7 ++ dktX1_keepAt_8
def dkwX1_keepAt_6 : List UInt8 := [96, 25, 4, 180, 0, 144, 79, 43, 28, 16, 52, 96, 6, 29, 104, 96, 25, 4, 180, 0, 206, 79, 43, 28]
abbrev dktX1_keepAt_6 : List UInt8 := dkwX1_keepAt_6 ++ dktX1_keepAt_7
def dkwX1_keepAt_5 : List UInt8 := [162, 0, 88, 42, 180, 0, 31, 29, 182, 0, 55, 192, 0, 64, 58, 4, 43, 28, 16, 51, 96, 6, 29, 104]
abbrev dktX1_keepAt_5 : List UInt8 := dkwX1_keepAt_5 ++ dktX1_keepAt_6
def dkwX1_keepAt_4 : List UInt8 := [104, 96, 25, 4, 180, 0, 122, 79, 132, 3, 1, 167, 255, 159, 3, 62, 29, 42, 180, 0, 31, 182, 0, 51]
abbrev dktX1_keepAt_4 : List UInt8 := dkwX1_keepAt_4 ++ dktX1_keepAt_5
def dkwX1_keepAt_3 : List UInt8 := [180, 0, 73, 79, 43, 28, 7, 96, 8, 29, 104, 96, 25, 4, 180, 0, 138, 79, 43, 28, 8, 96, 8, 29]
abbrev dktX1_keepAt_3 : List UInt8 := dkwX1_keepAt_3 ++ dktX1_keepAt_4
def dkwX1_keepAt_2 : List UInt8 := [28, 5, 96, 8, 29, 104, 96, 25, 4, 180, 0, 79, 79, 43, 28, 6, 96, 8, 29, 104, 96, 25, 4]
abbrev dktX1_keepAt_2 : List UInt8 := dkwX1_keepAt_2 ++ dktX1_keepAt_3
def dkwX1_keepAt_1 : List UInt8 := [29, 182, 0, 55, 192, 0, 59, 58, 4, 43, 28, 4, 96, 8, 29, 104, 96, 25, 4, 180, 0, 76, 79, 43]
abbrev dktX1_keepAt_1 : List UInt8 := dkwX1_keepAt_1 ++ dktX1_keepAt_2
def dkwX1_keepAt_0 : List UInt8 := [43, 28, 42, 180, 0, 70, 79, 3, 62, 29, 42, 180, 0, 28, 182, 0, 51, 162, 0, 92, 42, 180, 0, 28]
abbrev dktX1_keepAt_0 : List UInt8 := dkwX1_keepAt_0 ++ dktX1_keepAt_1
theorem dksX1_keepAt_0 : cX1_keepAt.data.toList.drop 0 = dktX1_keepAt_0 := by decide +kernel
theorem dksX1_keepAt_1 : cX1_keepAt.data.toList.drop 24 = dktX1_keepAt_1 := dk_seg dksX1_keepAt_0 24 rfl rfl
theorem dksX1_keepAt_2 : cX1_keepAt.data.toList.drop 48 = dktX1_keepAt_2 := dk_seg dksX1_keepAt_1 24 rfl rfl
theorem dksX1_keepAt_3 : cX1_keepAt.data.toList.drop 71 = dktX1_keepAt_3 := dk_seg dksX1_keepAt_2 23 rfl rfl
theorem dksX1_keepAt_4 : cX1_keepAt.data.toList.drop 95 = dktX1_keepAt_4 := dk_seg dksX1_keepAt_3 24 rfl rfl
theorem dksX1_keepAt_5 : cX1_keepAt.data.toList.drop 119 = dktX1_keepAt_5 := dk_seg dksX1_keepAt_4 24 rfl rfl
theorem dksX1_keepAt_6 : cX1_keepAt.data.toList.drop 143 = dktX1_keepAt_6 := dk_seg dksX1_keepAt_5 24 rfl rfl
theorem dksX1_keepAt_7 : cX1_keepAt.data.toList.drop 167 = dktX1_keepAt_7 := dk_seg dksX1_keepAt_6 24 rfl rfl
theorem dksX1_keepAt_8 : cX1_keepAt.data.toList.drop 191 = dktX1_keepAt_8 := dk_seg dksX1_keepAt_7 24 rfl rfl
theorem dX1_keepAt_0 : decode cX1_keepAt 0 = .ok (.aload_n 1, 1) := dk_43 (dk_at dksX1_keepAt_0 0 rfl rfl)
theorem dX1_keepAt_1 : decode cX1_keepAt 1 = .ok (.iload_n 2, 1) := dk_28 (dk_at dksX1_keepAt_0 1 rfl rfl)
theorem dX1_keepAt_2 : decode cX1_keepAt 2 = .ok (.aload_n 0, 1) := dk_42 (dk_at dksX1_keepAt_0 2 rfl rfl)
theorem dX1_keepAt_3 : decode cX1_keepAt 3 = .ok (.getfield 70, 3) := dk_180 0 70 (dk_at dksX1_keepAt_0 3 rfl rfl)
theorem dX1_keepAt_6 : decode cX1_keepAt 6 = .ok (.iastore, 1) := dk_79 (dk_at dksX1_keepAt_0 6 rfl rfl)
theorem dX1_keepAt_7 : decode cX1_keepAt 7 = .ok (.iconst 0, 1) := dk_3 (dk_at dksX1_keepAt_0 7 rfl rfl)
theorem dX1_keepAt_8 : decode cX1_keepAt 8 = .ok (.istore_n 3, 1) := dk_62 (dk_at dksX1_keepAt_0 8 rfl rfl)
theorem dX1_keepAt_9 : decode cX1_keepAt 9 = .ok (.iload_n 3, 1) := dk_29 (dk_at dksX1_keepAt_0 9 rfl rfl)
theorem dX1_keepAt_10 : decode cX1_keepAt 10 = .ok (.aload_n 0, 1) := dk_42 (dk_at dksX1_keepAt_0 10 rfl rfl)
theorem dX1_keepAt_11 : decode cX1_keepAt 11 = .ok (.getfield 28, 3) := dk_180 0 28 (dk_at dksX1_keepAt_0 11 rfl rfl)
theorem dX1_keepAt_14 : decode cX1_keepAt 14 = .ok (.invokevirtual 51, 3) := dk_182 0 51 (dk_at dksX1_keepAt_0 14 rfl rfl)
theorem dX1_keepAt_17 : decode cX1_keepAt 17 = .ok (.if_icmp .ge 92, 3) := dk_162 0 92 (dk_at dksX1_keepAt_0 17 rfl rfl)
theorem dX1_keepAt_20 : decode cX1_keepAt 20 = .ok (.aload_n 0, 1) := dk_42 (dk_at dksX1_keepAt_0 20 rfl rfl)
theorem dX1_keepAt_21 : decode cX1_keepAt 21 = .ok (.getfield 28, 3) := dk_180 0 28 (dk_at dksX1_keepAt_0 21 rfl rfl)
theorem dX1_keepAt_24 : decode cX1_keepAt 24 = .ok (.iload_n 3, 1) := dk_29 (dk_at dksX1_keepAt_1 0 rfl rfl)
theorem dX1_keepAt_25 : decode cX1_keepAt 25 = .ok (.invokevirtual 55, 3) := dk_182 0 55 (dk_at dksX1_keepAt_1 1 rfl rfl)
theorem dX1_keepAt_28 : decode cX1_keepAt 28 = .ok (.checkcast 59, 3) := dk_192 0 59 (dk_at dksX1_keepAt_1 4 rfl rfl)
theorem dX1_keepAt_31 : decode cX1_keepAt 31 = .ok (.astore 4, 2) := dk_58 4 (dk_at dksX1_keepAt_1 7 rfl rfl)
theorem dX1_keepAt_33 : decode cX1_keepAt 33 = .ok (.aload_n 1, 1) := dk_43 (dk_at dksX1_keepAt_1 9 rfl rfl)
theorem dX1_keepAt_34 : decode cX1_keepAt 34 = .ok (.iload_n 2, 1) := dk_28 (dk_at dksX1_keepAt_1 10 rfl rfl)
theorem dX1_keepAt_35 : decode cX1_keepAt 35 = .ok (.iconst 1, 1) := dk_4 (dk_at dksX1_keepAt_1 11 rfl rfl)
theorem dX1_keepAt_36 : decode cX1_keepAt 36 = .ok (.iadd, 1) := dk_96 (dk_at dksX1_keepAt_1 12 rfl rfl)
theorem dX1_keepAt_37 : decode cX1_keepAt 37 = .ok (.iconst 5, 1) := dk_8 (dk_at dksX1_keepAt_1 13 rfl rfl)
theorem dX1_keepAt_38 : decode cX1_keepAt 38 = .ok (.iload_n 3, 1) := dk_29 (dk_at dksX1_keepAt_1 14 rfl rfl)
theorem dX1_keepAt_39 : decode cX1_keepAt 39 = .ok (.imul, 1) := dk_104 (dk_at dksX1_keepAt_1 15 rfl rfl)
theorem dX1_keepAt_40 : decode cX1_keepAt 40 = .ok (.iadd, 1) := dk_96 (dk_at dksX1_keepAt_1 16 rfl rfl)
theorem dX1_keepAt_41 : decode cX1_keepAt 41 = .ok (.aload 4, 2) := dk_25 4 (dk_at dksX1_keepAt_1 17 rfl rfl)
theorem dX1_keepAt_43 : decode cX1_keepAt 43 = .ok (.getfield 76, 3) := dk_180 0 76 (dk_at dksX1_keepAt_1 19 rfl rfl)
theorem dX1_keepAt_46 : decode cX1_keepAt 46 = .ok (.iastore, 1) := dk_79 (dk_at dksX1_keepAt_1 22 rfl rfl)
theorem dX1_keepAt_47 : decode cX1_keepAt 47 = .ok (.aload_n 1, 1) := dk_43 (dk_at dksX1_keepAt_1 23 rfl rfl)
theorem dX1_keepAt_48 : decode cX1_keepAt 48 = .ok (.iload_n 2, 1) := dk_28 (dk_at dksX1_keepAt_2 0 rfl rfl)
theorem dX1_keepAt_49 : decode cX1_keepAt 49 = .ok (.iconst 2, 1) := dk_5 (dk_at dksX1_keepAt_2 1 rfl rfl)
theorem dX1_keepAt_50 : decode cX1_keepAt 50 = .ok (.iadd, 1) := dk_96 (dk_at dksX1_keepAt_2 2 rfl rfl)
theorem dX1_keepAt_51 : decode cX1_keepAt 51 = .ok (.iconst 5, 1) := dk_8 (dk_at dksX1_keepAt_2 3 rfl rfl)
theorem dX1_keepAt_52 : decode cX1_keepAt 52 = .ok (.iload_n 3, 1) := dk_29 (dk_at dksX1_keepAt_2 4 rfl rfl)
theorem dX1_keepAt_53 : decode cX1_keepAt 53 = .ok (.imul, 1) := dk_104 (dk_at dksX1_keepAt_2 5 rfl rfl)
theorem dX1_keepAt_54 : decode cX1_keepAt 54 = .ok (.iadd, 1) := dk_96 (dk_at dksX1_keepAt_2 6 rfl rfl)
theorem dX1_keepAt_55 : decode cX1_keepAt 55 = .ok (.aload 4, 2) := dk_25 4 (dk_at dksX1_keepAt_2 7 rfl rfl)
theorem dX1_keepAt_57 : decode cX1_keepAt 57 = .ok (.getfield 79, 3) := dk_180 0 79 (dk_at dksX1_keepAt_2 9 rfl rfl)
theorem dX1_keepAt_60 : decode cX1_keepAt 60 = .ok (.iastore, 1) := dk_79 (dk_at dksX1_keepAt_2 12 rfl rfl)
theorem dX1_keepAt_61 : decode cX1_keepAt 61 = .ok (.aload_n 1, 1) := dk_43 (dk_at dksX1_keepAt_2 13 rfl rfl)
theorem dX1_keepAt_62 : decode cX1_keepAt 62 = .ok (.iload_n 2, 1) := dk_28 (dk_at dksX1_keepAt_2 14 rfl rfl)
theorem dX1_keepAt_63 : decode cX1_keepAt 63 = .ok (.iconst 3, 1) := dk_6 (dk_at dksX1_keepAt_2 15 rfl rfl)
theorem dX1_keepAt_64 : decode cX1_keepAt 64 = .ok (.iadd, 1) := dk_96 (dk_at dksX1_keepAt_2 16 rfl rfl)
theorem dX1_keepAt_65 : decode cX1_keepAt 65 = .ok (.iconst 5, 1) := dk_8 (dk_at dksX1_keepAt_2 17 rfl rfl)
theorem dX1_keepAt_66 : decode cX1_keepAt 66 = .ok (.iload_n 3, 1) := dk_29 (dk_at dksX1_keepAt_2 18 rfl rfl)
theorem dX1_keepAt_67 : decode cX1_keepAt 67 = .ok (.imul, 1) := dk_104 (dk_at dksX1_keepAt_2 19 rfl rfl)
theorem dX1_keepAt_68 : decode cX1_keepAt 68 = .ok (.iadd, 1) := dk_96 (dk_at dksX1_keepAt_2 20 rfl rfl)
theorem dX1_keepAt_69 : decode cX1_keepAt 69 = .ok (.aload 4, 2) := dk_25 4 (dk_at dksX1_keepAt_2 21 rfl rfl)
theorem dX1_keepAt_71 : decode cX1_keepAt 71 = .ok (.getfield 73, 3) := dk_180 0 73 (dk_at dksX1_keepAt_3 0 rfl rfl)
theorem dX1_keepAt_74 : decode cX1_keepAt 74 = .ok (.iastore, 1) := dk_79 (dk_at dksX1_keepAt_3 3 rfl rfl)
theorem dX1_keepAt_75 : decode cX1_keepAt 75 = .ok (.aload_n 1, 1) := dk_43 (dk_at dksX1_keepAt_3 4 rfl rfl)
theorem dX1_keepAt_76 : decode cX1_keepAt 76 = .ok (.iload_n 2, 1) := dk_28 (dk_at dksX1_keepAt_3 5 rfl rfl)
theorem dX1_keepAt_77 : decode cX1_keepAt 77 = .ok (.iconst 4, 1) := dk_7 (dk_at dksX1_keepAt_3 6 rfl rfl)
theorem dX1_keepAt_78 : decode cX1_keepAt 78 = .ok (.iadd, 1) := dk_96 (dk_at dksX1_keepAt_3 7 rfl rfl)
theorem dX1_keepAt_79 : decode cX1_keepAt 79 = .ok (.iconst 5, 1) := dk_8 (dk_at dksX1_keepAt_3 8 rfl rfl)
theorem dX1_keepAt_80 : decode cX1_keepAt 80 = .ok (.iload_n 3, 1) := dk_29 (dk_at dksX1_keepAt_3 9 rfl rfl)
theorem dX1_keepAt_81 : decode cX1_keepAt 81 = .ok (.imul, 1) := dk_104 (dk_at dksX1_keepAt_3 10 rfl rfl)
theorem dX1_keepAt_82 : decode cX1_keepAt 82 = .ok (.iadd, 1) := dk_96 (dk_at dksX1_keepAt_3 11 rfl rfl)
theorem dX1_keepAt_83 : decode cX1_keepAt 83 = .ok (.aload 4, 2) := dk_25 4 (dk_at dksX1_keepAt_3 12 rfl rfl)
theorem dX1_keepAt_85 : decode cX1_keepAt 85 = .ok (.getfield 138, 3) := dk_180 0 138 (dk_at dksX1_keepAt_3 14 rfl rfl)
theorem dX1_keepAt_88 : decode cX1_keepAt 88 = .ok (.iastore, 1) := dk_79 (dk_at dksX1_keepAt_3 17 rfl rfl)
theorem dX1_keepAt_89 : decode cX1_keepAt 89 = .ok (.aload_n 1, 1) := dk_43 (dk_at dksX1_keepAt_3 18 rfl rfl)
theorem dX1_keepAt_90 : decode cX1_keepAt 90 = .ok (.iload_n 2, 1) := dk_28 (dk_at dksX1_keepAt_3 19 rfl rfl)
theorem dX1_keepAt_91 : decode cX1_keepAt 91 = .ok (.iconst 5, 1) := dk_8 (dk_at dksX1_keepAt_3 20 rfl rfl)
theorem dX1_keepAt_92 : decode cX1_keepAt 92 = .ok (.iadd, 1) := dk_96 (dk_at dksX1_keepAt_3 21 rfl rfl)
theorem dX1_keepAt_93 : decode cX1_keepAt 93 = .ok (.iconst 5, 1) := dk_8 (dk_at dksX1_keepAt_3 22 rfl rfl)
theorem dX1_keepAt_94 : decode cX1_keepAt 94 = .ok (.iload_n 3, 1) := dk_29 (dk_at dksX1_keepAt_3 23 rfl rfl)
theorem dX1_keepAt_95 : decode cX1_keepAt 95 = .ok (.imul, 1) := dk_104 (dk_at dksX1_keepAt_4 0 rfl rfl)
theorem dX1_keepAt_96 : decode cX1_keepAt 96 = .ok (.iadd, 1) := dk_96 (dk_at dksX1_keepAt_4 1 rfl rfl)
theorem dX1_keepAt_97 : decode cX1_keepAt 97 = .ok (.aload 4, 2) := dk_25 4 (dk_at dksX1_keepAt_4 2 rfl rfl)
theorem dX1_keepAt_99 : decode cX1_keepAt 99 = .ok (.getfield 122, 3) := dk_180 0 122 (dk_at dksX1_keepAt_4 4 rfl rfl)
theorem dX1_keepAt_102 : decode cX1_keepAt 102 = .ok (.iastore, 1) := dk_79 (dk_at dksX1_keepAt_4 7 rfl rfl)
theorem dX1_keepAt_103 : decode cX1_keepAt 103 = .ok (.iinc 3 1, 3) := dk_132 3 1 (dk_at dksX1_keepAt_4 8 rfl rfl)
theorem dX1_keepAt_106 : decode cX1_keepAt 106 = .ok (.goto (-97), 3) := dk_167 255 159 (dk_at dksX1_keepAt_4 11 rfl rfl)
theorem dX1_keepAt_109 : decode cX1_keepAt 109 = .ok (.iconst 0, 1) := dk_3 (dk_at dksX1_keepAt_4 14 rfl rfl)
theorem dX1_keepAt_110 : decode cX1_keepAt 110 = .ok (.istore_n 3, 1) := dk_62 (dk_at dksX1_keepAt_4 15 rfl rfl)
theorem dX1_keepAt_111 : decode cX1_keepAt 111 = .ok (.iload_n 3, 1) := dk_29 (dk_at dksX1_keepAt_4 16 rfl rfl)
theorem dX1_keepAt_112 : decode cX1_keepAt 112 = .ok (.aload_n 0, 1) := dk_42 (dk_at dksX1_keepAt_4 17 rfl rfl)
theorem dX1_keepAt_113 : decode cX1_keepAt 113 = .ok (.getfield 31, 3) := dk_180 0 31 (dk_at dksX1_keepAt_4 18 rfl rfl)
theorem dX1_keepAt_116 : decode cX1_keepAt 116 = .ok (.invokevirtual 51, 3) := dk_182 0 51 (dk_at dksX1_keepAt_4 21 rfl rfl)
theorem dX1_keepAt_119 : decode cX1_keepAt 119 = .ok (.if_icmp .ge 88, 3) := dk_162 0 88 (dk_at dksX1_keepAt_5 0 rfl rfl)
theorem dX1_keepAt_122 : decode cX1_keepAt 122 = .ok (.aload_n 0, 1) := dk_42 (dk_at dksX1_keepAt_5 3 rfl rfl)
theorem dX1_keepAt_123 : decode cX1_keepAt 123 = .ok (.getfield 31, 3) := dk_180 0 31 (dk_at dksX1_keepAt_5 4 rfl rfl)
theorem dX1_keepAt_126 : decode cX1_keepAt 126 = .ok (.iload_n 3, 1) := dk_29 (dk_at dksX1_keepAt_5 7 rfl rfl)
theorem dX1_keepAt_127 : decode cX1_keepAt 127 = .ok (.invokevirtual 55, 3) := dk_182 0 55 (dk_at dksX1_keepAt_5 8 rfl rfl)
theorem dX1_keepAt_130 : decode cX1_keepAt 130 = .ok (.checkcast 64, 3) := dk_192 0 64 (dk_at dksX1_keepAt_5 11 rfl rfl)
theorem dX1_keepAt_133 : decode cX1_keepAt 133 = .ok (.astore 4, 2) := dk_58 4 (dk_at dksX1_keepAt_5 14 rfl rfl)
theorem dX1_keepAt_135 : decode cX1_keepAt 135 = .ok (.aload_n 1, 1) := dk_43 (dk_at dksX1_keepAt_5 16 rfl rfl)
theorem dX1_keepAt_136 : decode cX1_keepAt 136 = .ok (.iload_n 2, 1) := dk_28 (dk_at dksX1_keepAt_5 17 rfl rfl)
theorem dX1_keepAt_137 : decode cX1_keepAt 137 = .ok (.bipush 51, 2) := dk_16 51 (dk_at dksX1_keepAt_5 18 rfl rfl)
theorem dX1_keepAt_139 : decode cX1_keepAt 139 = .ok (.iadd, 1) := dk_96 (dk_at dksX1_keepAt_5 20 rfl rfl)
theorem dX1_keepAt_140 : decode cX1_keepAt 140 = .ok (.iconst 3, 1) := dk_6 (dk_at dksX1_keepAt_5 21 rfl rfl)
theorem dX1_keepAt_141 : decode cX1_keepAt 141 = .ok (.iload_n 3, 1) := dk_29 (dk_at dksX1_keepAt_5 22 rfl rfl)
theorem dX1_keepAt_142 : decode cX1_keepAt 142 = .ok (.imul, 1) := dk_104 (dk_at dksX1_keepAt_5 23 rfl rfl)
theorem dX1_keepAt_143 : decode cX1_keepAt 143 = .ok (.iadd, 1) := dk_96 (dk_at dksX1_keepAt_6 0 rfl rfl)
theorem dX1_keepAt_144 : decode cX1_keepAt 144 = .ok (.aload 4, 2) := dk_25 4 (dk_at dksX1_keepAt_6 1 rfl rfl)
theorem dX1_keepAt_146 : decode cX1_keepAt 146 = .ok (.getfield 144, 3) := dk_180 0 144 (dk_at dksX1_keepAt_6 3 rfl rfl)
theorem dX1_keepAt_149 : decode cX1_keepAt 149 = .ok (.iastore, 1) := dk_79 (dk_at dksX1_keepAt_6 6 rfl rfl)
theorem dX1_keepAt_150 : decode cX1_keepAt 150 = .ok (.aload_n 1, 1) := dk_43 (dk_at dksX1_keepAt_6 7 rfl rfl)
theorem dX1_keepAt_151 : decode cX1_keepAt 151 = .ok (.iload_n 2, 1) := dk_28 (dk_at dksX1_keepAt_6 8 rfl rfl)
theorem dX1_keepAt_152 : decode cX1_keepAt 152 = .ok (.bipush 52, 2) := dk_16 52 (dk_at dksX1_keepAt_6 9 rfl rfl)
theorem dX1_keepAt_154 : decode cX1_keepAt 154 = .ok (.iadd, 1) := dk_96 (dk_at dksX1_keepAt_6 11 rfl rfl)
theorem dX1_keepAt_155 : decode cX1_keepAt 155 = .ok (.iconst 3, 1) := dk_6 (dk_at dksX1_keepAt_6 12 rfl rfl)
theorem dX1_keepAt_156 : decode cX1_keepAt 156 = .ok (.iload_n 3, 1) := dk_29 (dk_at dksX1_keepAt_6 13 rfl rfl)
theorem dX1_keepAt_157 : decode cX1_keepAt 157 = .ok (.imul, 1) := dk_104 (dk_at dksX1_keepAt_6 14 rfl rfl)
theorem dX1_keepAt_158 : decode cX1_keepAt 158 = .ok (.iadd, 1) := dk_96 (dk_at dksX1_keepAt_6 15 rfl rfl)
theorem dX1_keepAt_159 : decode cX1_keepAt 159 = .ok (.aload 4, 2) := dk_25 4 (dk_at dksX1_keepAt_6 16 rfl rfl)
theorem dX1_keepAt_161 : decode cX1_keepAt 161 = .ok (.getfield 206, 3) := dk_180 0 206 (dk_at dksX1_keepAt_6 18 rfl rfl)
theorem dX1_keepAt_164 : decode cX1_keepAt 164 = .ok (.iastore, 1) := dk_79 (dk_at dksX1_keepAt_6 21 rfl rfl)
theorem dX1_keepAt_165 : decode cX1_keepAt 165 = .ok (.aload_n 1, 1) := dk_43 (dk_at dksX1_keepAt_6 22 rfl rfl)
theorem dX1_keepAt_166 : decode cX1_keepAt 166 = .ok (.iload_n 2, 1) := dk_28 (dk_at dksX1_keepAt_6 23 rfl rfl)
theorem dX1_keepAt_167 : decode cX1_keepAt 167 = .ok (.bipush 53, 2) := dk_16 53 (dk_at dksX1_keepAt_7 0 rfl rfl)
theorem dX1_keepAt_169 : decode cX1_keepAt 169 = .ok (.iadd, 1) := dk_96 (dk_at dksX1_keepAt_7 2 rfl rfl)
theorem dX1_keepAt_170 : decode cX1_keepAt 170 = .ok (.iconst 3, 1) := dk_6 (dk_at dksX1_keepAt_7 3 rfl rfl)
theorem dX1_keepAt_171 : decode cX1_keepAt 171 = .ok (.iload_n 3, 1) := dk_29 (dk_at dksX1_keepAt_7 4 rfl rfl)
theorem dX1_keepAt_172 : decode cX1_keepAt 172 = .ok (.imul, 1) := dk_104 (dk_at dksX1_keepAt_7 5 rfl rfl)
theorem dX1_keepAt_173 : decode cX1_keepAt 173 = .ok (.iadd, 1) := dk_96 (dk_at dksX1_keepAt_7 6 rfl rfl)
theorem dX1_keepAt_174 : decode cX1_keepAt 174 = .ok (.aload 4, 2) := dk_25 4 (dk_at dksX1_keepAt_7 7 rfl rfl)
theorem dX1_keepAt_176 : decode cX1_keepAt 176 = .ok (.getfield 194, 3) := dk_180 0 194 (dk_at dksX1_keepAt_7 9 rfl rfl)
theorem dX1_keepAt_179 : decode cX1_keepAt 179 = .ok (.iastore, 1) := dk_79 (dk_at dksX1_keepAt_7 12 rfl rfl)
theorem dX1_keepAt_180 : decode cX1_keepAt 180 = .ok (.aload 4, 2) := dk_25 4 (dk_at dksX1_keepAt_7 13 rfl rfl)
theorem dX1_keepAt_182 : decode cX1_keepAt 182 = .ok (.getfield 203, 3) := dk_180 0 203 (dk_at dksX1_keepAt_7 15 rfl rfl)
theorem dX1_keepAt_185 : decode cX1_keepAt 185 = .ok (.iconst 0, 1) := dk_3 (dk_at dksX1_keepAt_7 18 rfl rfl)
theorem dX1_keepAt_186 : decode cX1_keepAt 186 = .ok (.aload_n 1, 1) := dk_43 (dk_at dksX1_keepAt_7 19 rfl rfl)
theorem dX1_keepAt_187 : decode cX1_keepAt 187 = .ok (.iload_n 2, 1) := dk_28 (dk_at dksX1_keepAt_7 20 rfl rfl)
theorem dX1_keepAt_188 : decode cX1_keepAt 188 = .ok (.bipush 63, 2) := dk_16 63 (dk_at dksX1_keepAt_7 21 rfl rfl)
theorem dX1_keepAt_190 : decode cX1_keepAt 190 = .ok (.iadd, 1) := dk_96 (dk_at dksX1_keepAt_7 23 rfl rfl)
theorem dX1_keepAt_191 : decode cX1_keepAt 191 = .ok (.bipush 15, 2) := dk_16 15 (dk_at dksX1_keepAt_8 0 rfl rfl)
theorem dX1_keepAt_193 : decode cX1_keepAt 193 = .ok (.iload_n 3, 1) := dk_29 (dk_at dksX1_keepAt_8 2 rfl rfl)
theorem dX1_keepAt_194 : decode cX1_keepAt 194 = .ok (.imul, 1) := dk_104 (dk_at dksX1_keepAt_8 3 rfl rfl)
theorem dX1_keepAt_195 : decode cX1_keepAt 195 = .ok (.iadd, 1) := dk_96 (dk_at dksX1_keepAt_8 4 rfl rfl)
theorem dX1_keepAt_196 : decode cX1_keepAt 196 = .ok (.bipush 15, 2) := dk_16 15 (dk_at dksX1_keepAt_8 5 rfl rfl)
theorem dX1_keepAt_198 : decode cX1_keepAt 198 = .ok (.invokestatic 233, 3) := dk_184 0 233 (dk_at dksX1_keepAt_8 7 rfl rfl)
theorem dX1_keepAt_201 : decode cX1_keepAt 201 = .ok (.iinc 3 1, 3) := dk_132 3 1 (dk_at dksX1_keepAt_8 10 rfl rfl)
theorem dX1_keepAt_204 : decode cX1_keepAt 204 = .ok (.goto (-93), 3) := dk_167 255 163 (dk_at dksX1_keepAt_8 13 rfl rfl)
theorem dX1_keepAt_207 : decode cX1_keepAt 207 = .ok (.return_, 1) := dk_177 (dk_at dksX1_keepAt_8 16 rfl rfl)
abbrev cX1_go : ByteArray := prog_20_method_17_code
def yX1_go : MethodName := ⟨RX1, "go", "(III)Z"⟩
def dkwX1_go_7 : List UInt8 := [25, 4, 25, 5, 182, 0, 209, 21, 7, 172]
abbrev dktX1_go_7 : List UInt8 := dkwX1_go_7 ++ []
def dkwX1_go_6 : List UInt8 := [181, 0, 73, 25, 4, 89, 180, 0, 206, 4, 96, 181, 0, 206, 167, 0, 16, 178, 0, 165, 29, 50, 42]
abbrev dktX1_go_6 : List UInt8 := dkwX1_go_6 ++ dktX1_go_7
def dkwX1_go_5 : List UInt8 := [25, 4, 180, 0, 203, 6, 29, 104, 5, 96, 92, 46, 21, 6, 96, 79, 21, 7, 153, 0, 23, 25, 5, 27]
abbrev dktX1_go_5 : List UInt8 := dkwX1_go_5 ++ dktX1_go_6
def dkwX1_go_4 : List UInt8 := [25, 4, 180, 0, 203, 6, 29, 104, 4, 96, 92, 46, 21, 7, 153, 0, 7, 4, 167, 0, 4, 3, 96, 79]
abbrev dktX1_go_4 : List UInt8 := dkwX1_go_4 ++ dktX1_go_5
def dkwX1_go_3 : List UInt8 := [162, 0, 7, 4, 167, 0, 4, 3, 54, 7, 25, 4, 180, 0, 203, 6, 29, 104, 92, 46, 4, 96, 79]
abbrev dktX1_go_3 : List UInt8 := dkwX1_go_3 ++ dktX1_go_4
def dkwX1_go_2 : List UInt8 := [96, 17, 3, 232, 112, 181, 0, 70, 42, 25, 4, 29, 182, 0, 199, 42, 180, 0, 70, 16, 10, 108, 21, 6]
abbrev dktX1_go_2 : List UInt8 := dkwX1_go_2 ++ dktX1_go_3
def dkwX1_go_1 : List UInt8 := [58, 5, 42, 25, 4, 25, 5, 29, 182, 0, 177, 54, 6, 42, 42, 180, 0, 70, 17, 0, 137, 104, 16, 71]
abbrev dktX1_go_1 : List UInt8 := dkwX1_go_1 ++ dktX1_go_2
def dkwX1_go_0 : List UInt8 := [42, 180, 0, 31, 27, 182, 0, 55, 192, 0, 64, 58, 4, 42, 180, 0, 28, 28, 182, 0, 55, 192, 0, 59]
abbrev dktX1_go_0 : List UInt8 := dkwX1_go_0 ++ dktX1_go_1
theorem dksX1_go_0 : cX1_go.data.toList.drop 0 = dktX1_go_0 := by decide +kernel
theorem dksX1_go_1 : cX1_go.data.toList.drop 24 = dktX1_go_1 := dk_seg dksX1_go_0 24 rfl rfl
theorem dksX1_go_2 : cX1_go.data.toList.drop 48 = dktX1_go_2 := dk_seg dksX1_go_1 24 rfl rfl
theorem dksX1_go_3 : cX1_go.data.toList.drop 72 = dktX1_go_3 := dk_seg dksX1_go_2 24 rfl rfl
theorem dksX1_go_4 : cX1_go.data.toList.drop 95 = dktX1_go_4 := dk_seg dksX1_go_3 23 rfl rfl
theorem dksX1_go_5 : cX1_go.data.toList.drop 119 = dktX1_go_5 := dk_seg dksX1_go_4 24 rfl rfl
theorem dksX1_go_6 : cX1_go.data.toList.drop 143 = dktX1_go_6 := dk_seg dksX1_go_5 24 rfl rfl
theorem dksX1_go_7 : cX1_go.data.toList.drop 166 = dktX1_go_7 := dk_seg dksX1_go_6 23 rfl rfl
theorem dX1_go_0 : decode cX1_go 0 = .ok (.aload_n 0, 1) := dk_42 (dk_at dksX1_go_0 0 rfl rfl)
theorem dX1_go_1 : decode cX1_go 1 = .ok (.getfield 31, 3) := dk_180 0 31 (dk_at dksX1_go_0 1 rfl rfl)
theorem dX1_go_4 : decode cX1_go 4 = .ok (.iload_n 1, 1) := dk_27 (dk_at dksX1_go_0 4 rfl rfl)
theorem dX1_go_5 : decode cX1_go 5 = .ok (.invokevirtual 55, 3) := dk_182 0 55 (dk_at dksX1_go_0 5 rfl rfl)
theorem dX1_go_8 : decode cX1_go 8 = .ok (.checkcast 64, 3) := dk_192 0 64 (dk_at dksX1_go_0 8 rfl rfl)
theorem dX1_go_11 : decode cX1_go 11 = .ok (.astore 4, 2) := dk_58 4 (dk_at dksX1_go_0 11 rfl rfl)
theorem dX1_go_13 : decode cX1_go 13 = .ok (.aload_n 0, 1) := dk_42 (dk_at dksX1_go_0 13 rfl rfl)
theorem dX1_go_14 : decode cX1_go 14 = .ok (.getfield 28, 3) := dk_180 0 28 (dk_at dksX1_go_0 14 rfl rfl)
theorem dX1_go_17 : decode cX1_go 17 = .ok (.iload_n 2, 1) := dk_28 (dk_at dksX1_go_0 17 rfl rfl)
theorem dX1_go_18 : decode cX1_go 18 = .ok (.invokevirtual 55, 3) := dk_182 0 55 (dk_at dksX1_go_0 18 rfl rfl)
theorem dX1_go_21 : decode cX1_go 21 = .ok (.checkcast 59, 3) := dk_192 0 59 (dk_at dksX1_go_0 21 rfl rfl)
theorem dX1_go_24 : decode cX1_go 24 = .ok (.astore 5, 2) := dk_58 5 (dk_at dksX1_go_1 0 rfl rfl)
theorem dX1_go_26 : decode cX1_go 26 = .ok (.aload_n 0, 1) := dk_42 (dk_at dksX1_go_1 2 rfl rfl)
theorem dX1_go_27 : decode cX1_go 27 = .ok (.aload 4, 2) := dk_25 4 (dk_at dksX1_go_1 3 rfl rfl)
theorem dX1_go_29 : decode cX1_go 29 = .ok (.aload 5, 2) := dk_25 5 (dk_at dksX1_go_1 5 rfl rfl)
theorem dX1_go_31 : decode cX1_go 31 = .ok (.iload_n 3, 1) := dk_29 (dk_at dksX1_go_1 7 rfl rfl)
theorem dX1_go_32 : decode cX1_go 32 = .ok (.invokevirtual 177, 3) := dk_182 0 177 (dk_at dksX1_go_1 8 rfl rfl)
theorem dX1_go_35 : decode cX1_go 35 = .ok (.istore 6, 2) := dk_54 6 (dk_at dksX1_go_1 11 rfl rfl)
theorem dX1_go_37 : decode cX1_go 37 = .ok (.aload_n 0, 1) := dk_42 (dk_at dksX1_go_1 13 rfl rfl)
theorem dX1_go_38 : decode cX1_go 38 = .ok (.aload_n 0, 1) := dk_42 (dk_at dksX1_go_1 14 rfl rfl)
theorem dX1_go_39 : decode cX1_go 39 = .ok (.getfield 70, 3) := dk_180 0 70 (dk_at dksX1_go_1 15 rfl rfl)
theorem dX1_go_42 : decode cX1_go 42 = .ok (.sipush 137, 3) := dk_17 0 137 (dk_at dksX1_go_1 18 rfl rfl)
theorem dX1_go_45 : decode cX1_go 45 = .ok (.imul, 1) := dk_104 (dk_at dksX1_go_1 21 rfl rfl)
theorem dX1_go_46 : decode cX1_go 46 = .ok (.bipush 71, 2) := dk_16 71 (dk_at dksX1_go_1 22 rfl rfl)
theorem dX1_go_48 : decode cX1_go 48 = .ok (.iadd, 1) := dk_96 (dk_at dksX1_go_2 0 rfl rfl)
theorem dX1_go_49 : decode cX1_go 49 = .ok (.sipush 1000, 3) := dk_17 3 232 (dk_at dksX1_go_2 1 rfl rfl)
theorem dX1_go_52 : decode cX1_go 52 = .ok (.irem, 1) := dk_112 (dk_at dksX1_go_2 4 rfl rfl)
theorem dX1_go_53 : decode cX1_go 53 = .ok (.putfield 70, 3) := dk_181 0 70 (dk_at dksX1_go_2 5 rfl rfl)
theorem dX1_go_56 : decode cX1_go 56 = .ok (.aload_n 0, 1) := dk_42 (dk_at dksX1_go_2 8 rfl rfl)
theorem dX1_go_57 : decode cX1_go 57 = .ok (.aload 4, 2) := dk_25 4 (dk_at dksX1_go_2 9 rfl rfl)
theorem dX1_go_59 : decode cX1_go 59 = .ok (.iload_n 3, 1) := dk_29 (dk_at dksX1_go_2 11 rfl rfl)
theorem dX1_go_60 : decode cX1_go 60 = .ok (.invokevirtual 199, 3) := dk_182 0 199 (dk_at dksX1_go_2 12 rfl rfl)
theorem dX1_go_63 : decode cX1_go 63 = .ok (.aload_n 0, 1) := dk_42 (dk_at dksX1_go_2 15 rfl rfl)
theorem dX1_go_64 : decode cX1_go 64 = .ok (.getfield 70, 3) := dk_180 0 70 (dk_at dksX1_go_2 16 rfl rfl)
theorem dX1_go_67 : decode cX1_go 67 = .ok (.bipush 10, 2) := dk_16 10 (dk_at dksX1_go_2 19 rfl rfl)
theorem dX1_go_69 : decode cX1_go 69 = .ok (.idiv, 1) := dk_108 (dk_at dksX1_go_2 21 rfl rfl)
theorem dX1_go_70 : decode cX1_go 70 = .ok (.iload 6, 2) := dk_21 6 (dk_at dksX1_go_2 22 rfl rfl)
theorem dX1_go_72 : decode cX1_go 72 = .ok (.if_icmp .ge 7, 3) := dk_162 0 7 (dk_at dksX1_go_3 0 rfl rfl)
theorem dX1_go_75 : decode cX1_go 75 = .ok (.iconst 1, 1) := dk_4 (dk_at dksX1_go_3 3 rfl rfl)
theorem dX1_go_76 : decode cX1_go 76 = .ok (.goto 4, 3) := dk_167 0 4 (dk_at dksX1_go_3 4 rfl rfl)
theorem dX1_go_79 : decode cX1_go 79 = .ok (.iconst 0, 1) := dk_3 (dk_at dksX1_go_3 7 rfl rfl)
theorem dX1_go_80 : decode cX1_go 80 = .ok (.istore 7, 2) := dk_54 7 (dk_at dksX1_go_3 8 rfl rfl)
theorem dX1_go_82 : decode cX1_go 82 = .ok (.aload 4, 2) := dk_25 4 (dk_at dksX1_go_3 10 rfl rfl)
theorem dX1_go_84 : decode cX1_go 84 = .ok (.getfield 203, 3) := dk_180 0 203 (dk_at dksX1_go_3 12 rfl rfl)
theorem dX1_go_87 : decode cX1_go 87 = .ok (.iconst 3, 1) := dk_6 (dk_at dksX1_go_3 15 rfl rfl)
theorem dX1_go_88 : decode cX1_go 88 = .ok (.iload_n 3, 1) := dk_29 (dk_at dksX1_go_3 16 rfl rfl)
theorem dX1_go_89 : decode cX1_go 89 = .ok (.imul, 1) := dk_104 (dk_at dksX1_go_3 17 rfl rfl)
theorem dX1_go_90 : decode cX1_go 90 = .ok (.dup2, 1) := dk_92 (dk_at dksX1_go_3 18 rfl rfl)
theorem dX1_go_91 : decode cX1_go 91 = .ok (.iaload, 1) := dk_46 (dk_at dksX1_go_3 19 rfl rfl)
theorem dX1_go_92 : decode cX1_go 92 = .ok (.iconst 1, 1) := dk_4 (dk_at dksX1_go_3 20 rfl rfl)
theorem dX1_go_93 : decode cX1_go 93 = .ok (.iadd, 1) := dk_96 (dk_at dksX1_go_3 21 rfl rfl)
theorem dX1_go_94 : decode cX1_go 94 = .ok (.iastore, 1) := dk_79 (dk_at dksX1_go_3 22 rfl rfl)
theorem dX1_go_95 : decode cX1_go 95 = .ok (.aload 4, 2) := dk_25 4 (dk_at dksX1_go_4 0 rfl rfl)
theorem dX1_go_97 : decode cX1_go 97 = .ok (.getfield 203, 3) := dk_180 0 203 (dk_at dksX1_go_4 2 rfl rfl)
theorem dX1_go_100 : decode cX1_go 100 = .ok (.iconst 3, 1) := dk_6 (dk_at dksX1_go_4 5 rfl rfl)
theorem dX1_go_101 : decode cX1_go 101 = .ok (.iload_n 3, 1) := dk_29 (dk_at dksX1_go_4 6 rfl rfl)
theorem dX1_go_102 : decode cX1_go 102 = .ok (.imul, 1) := dk_104 (dk_at dksX1_go_4 7 rfl rfl)
theorem dX1_go_103 : decode cX1_go 103 = .ok (.iconst 1, 1) := dk_4 (dk_at dksX1_go_4 8 rfl rfl)
theorem dX1_go_104 : decode cX1_go 104 = .ok (.iadd, 1) := dk_96 (dk_at dksX1_go_4 9 rfl rfl)
theorem dX1_go_105 : decode cX1_go 105 = .ok (.dup2, 1) := dk_92 (dk_at dksX1_go_4 10 rfl rfl)
theorem dX1_go_106 : decode cX1_go 106 = .ok (.iaload, 1) := dk_46 (dk_at dksX1_go_4 11 rfl rfl)
theorem dX1_go_107 : decode cX1_go 107 = .ok (.iload 7, 2) := dk_21 7 (dk_at dksX1_go_4 12 rfl rfl)
theorem dX1_go_109 : decode cX1_go 109 = .ok (.ifCond .eq 7, 3) := dk_153 0 7 (dk_at dksX1_go_4 14 rfl rfl)
theorem dX1_go_112 : decode cX1_go 112 = .ok (.iconst 1, 1) := dk_4 (dk_at dksX1_go_4 17 rfl rfl)
theorem dX1_go_113 : decode cX1_go 113 = .ok (.goto 4, 3) := dk_167 0 4 (dk_at dksX1_go_4 18 rfl rfl)
theorem dX1_go_116 : decode cX1_go 116 = .ok (.iconst 0, 1) := dk_3 (dk_at dksX1_go_4 21 rfl rfl)
theorem dX1_go_117 : decode cX1_go 117 = .ok (.iadd, 1) := dk_96 (dk_at dksX1_go_4 22 rfl rfl)
theorem dX1_go_118 : decode cX1_go 118 = .ok (.iastore, 1) := dk_79 (dk_at dksX1_go_4 23 rfl rfl)
theorem dX1_go_119 : decode cX1_go 119 = .ok (.aload 4, 2) := dk_25 4 (dk_at dksX1_go_5 0 rfl rfl)
theorem dX1_go_121 : decode cX1_go 121 = .ok (.getfield 203, 3) := dk_180 0 203 (dk_at dksX1_go_5 2 rfl rfl)
theorem dX1_go_124 : decode cX1_go 124 = .ok (.iconst 3, 1) := dk_6 (dk_at dksX1_go_5 5 rfl rfl)
theorem dX1_go_125 : decode cX1_go 125 = .ok (.iload_n 3, 1) := dk_29 (dk_at dksX1_go_5 6 rfl rfl)
theorem dX1_go_126 : decode cX1_go 126 = .ok (.imul, 1) := dk_104 (dk_at dksX1_go_5 7 rfl rfl)
theorem dX1_go_127 : decode cX1_go 127 = .ok (.iconst 2, 1) := dk_5 (dk_at dksX1_go_5 8 rfl rfl)
theorem dX1_go_128 : decode cX1_go 128 = .ok (.iadd, 1) := dk_96 (dk_at dksX1_go_5 9 rfl rfl)
theorem dX1_go_129 : decode cX1_go 129 = .ok (.dup2, 1) := dk_92 (dk_at dksX1_go_5 10 rfl rfl)
theorem dX1_go_130 : decode cX1_go 130 = .ok (.iaload, 1) := dk_46 (dk_at dksX1_go_5 11 rfl rfl)
theorem dX1_go_131 : decode cX1_go 131 = .ok (.iload 6, 2) := dk_21 6 (dk_at dksX1_go_5 12 rfl rfl)
theorem dX1_go_133 : decode cX1_go 133 = .ok (.iadd, 1) := dk_96 (dk_at dksX1_go_5 14 rfl rfl)
theorem dX1_go_134 : decode cX1_go 134 = .ok (.iastore, 1) := dk_79 (dk_at dksX1_go_5 15 rfl rfl)
theorem dX1_go_135 : decode cX1_go 135 = .ok (.iload 7, 2) := dk_21 7 (dk_at dksX1_go_5 16 rfl rfl)
theorem dX1_go_137 : decode cX1_go 137 = .ok (.ifCond .eq 23, 3) := dk_153 0 23 (dk_at dksX1_go_5 18 rfl rfl)
theorem dX1_go_140 : decode cX1_go 140 = .ok (.aload 5, 2) := dk_25 5 (dk_at dksX1_go_5 21 rfl rfl)
theorem dX1_go_142 : decode cX1_go 142 = .ok (.iload_n 1, 1) := dk_27 (dk_at dksX1_go_5 23 rfl rfl)
theorem dX1_go_143 : decode cX1_go 143 = .ok (.putfield 73, 3) := dk_181 0 73 (dk_at dksX1_go_6 0 rfl rfl)
theorem dX1_go_146 : decode cX1_go 146 = .ok (.aload 4, 2) := dk_25 4 (dk_at dksX1_go_6 3 rfl rfl)
theorem dX1_go_148 : decode cX1_go 148 = .ok (.dup, 1) := dk_89 (dk_at dksX1_go_6 5 rfl rfl)
theorem dX1_go_149 : decode cX1_go 149 = .ok (.getfield 206, 3) := dk_180 0 206 (dk_at dksX1_go_6 6 rfl rfl)
theorem dX1_go_152 : decode cX1_go 152 = .ok (.iconst 1, 1) := dk_4 (dk_at dksX1_go_6 9 rfl rfl)
theorem dX1_go_153 : decode cX1_go 153 = .ok (.iadd, 1) := dk_96 (dk_at dksX1_go_6 10 rfl rfl)
theorem dX1_go_154 : decode cX1_go 154 = .ok (.putfield 206, 3) := dk_181 0 206 (dk_at dksX1_go_6 11 rfl rfl)
theorem dX1_go_157 : decode cX1_go 157 = .ok (.goto 16, 3) := dk_167 0 16 (dk_at dksX1_go_6 14 rfl rfl)
theorem dX1_go_160 : decode cX1_go 160 = .ok (.getstatic 165, 3) := dk_178 0 165 (dk_at dksX1_go_6 17 rfl rfl)
theorem dX1_go_163 : decode cX1_go 163 = .ok (.iload_n 3, 1) := dk_29 (dk_at dksX1_go_6 20 rfl rfl)
theorem dX1_go_164 : decode cX1_go 164 = .ok (.aaload, 1) := dk_50 (dk_at dksX1_go_6 21 rfl rfl)
theorem dX1_go_165 : decode cX1_go 165 = .ok (.aload_n 0, 1) := dk_42 (dk_at dksX1_go_6 22 rfl rfl)
theorem dX1_go_166 : decode cX1_go 166 = .ok (.aload 4, 2) := dk_25 4 (dk_at dksX1_go_7 0 rfl rfl)
theorem dX1_go_168 : decode cX1_go 168 = .ok (.aload 5, 2) := dk_25 5 (dk_at dksX1_go_7 2 rfl rfl)
theorem dX1_go_170 : decode cX1_go 170 = .ok (.invokevirtual 209, 3) := dk_182 0 209 (dk_at dksX1_go_7 4 rfl rfl)
theorem dX1_go_173 : decode cX1_go 173 = .ok (.iload 7, 2) := dk_21 7 (dk_at dksX1_go_7 7 rfl rfl)
theorem dX1_go_175 : decode cX1_go 175 = .ok (.ireturn, 1) := dk_172 (dk_at dksX1_go_7 9 rfl rfl)
abbrev cX1_takes : ByteArray := prog_20_method_16_code
def yX1_takes : MethodName := ⟨RX1, "takes", "(LTubBites$Bobber;I)V"⟩
def dkwX1_takes_1 : List UInt8 := [178, 0, 165, 28, 50, 182, 0, 169, 100, 181, 0, 144, 177]
abbrev dktX1_takes_1 : List UInt8 := dkwX1_takes_1 ++ []
def dkwX1_takes_0 : List UInt8 := [43, 89, 180, 0, 194, 178, 0, 165, 28, 50, 182, 0, 197, 96, 181, 0, 194, 43, 89, 180, 0, 144]
abbrev dktX1_takes_0 : List UInt8 := dkwX1_takes_0 ++ dktX1_takes_1
theorem dksX1_takes_0 : cX1_takes.data.toList.drop 0 = dktX1_takes_0 := by decide +kernel
theorem dksX1_takes_1 : cX1_takes.data.toList.drop 22 = dktX1_takes_1 := dk_seg dksX1_takes_0 22 rfl rfl
theorem dX1_takes_0 : decode cX1_takes 0 = .ok (.aload_n 1, 1) := dk_43 (dk_at dksX1_takes_0 0 rfl rfl)
theorem dX1_takes_1 : decode cX1_takes 1 = .ok (.dup, 1) := dk_89 (dk_at dksX1_takes_0 1 rfl rfl)
theorem dX1_takes_2 : decode cX1_takes 2 = .ok (.getfield 194, 3) := dk_180 0 194 (dk_at dksX1_takes_0 2 rfl rfl)
theorem dX1_takes_5 : decode cX1_takes 5 = .ok (.getstatic 165, 3) := dk_178 0 165 (dk_at dksX1_takes_0 5 rfl rfl)
theorem dX1_takes_8 : decode cX1_takes 8 = .ok (.iload_n 2, 1) := dk_28 (dk_at dksX1_takes_0 8 rfl rfl)
theorem dX1_takes_9 : decode cX1_takes 9 = .ok (.aaload, 1) := dk_50 (dk_at dksX1_takes_0 9 rfl rfl)
theorem dX1_takes_10 : decode cX1_takes 10 = .ok (.invokevirtual 197, 3) := dk_182 0 197 (dk_at dksX1_takes_0 10 rfl rfl)
theorem dX1_takes_13 : decode cX1_takes 13 = .ok (.iadd, 1) := dk_96 (dk_at dksX1_takes_0 13 rfl rfl)
theorem dX1_takes_14 : decode cX1_takes 14 = .ok (.putfield 194, 3) := dk_181 0 194 (dk_at dksX1_takes_0 14 rfl rfl)
theorem dX1_takes_17 : decode cX1_takes 17 = .ok (.aload_n 1, 1) := dk_43 (dk_at dksX1_takes_0 17 rfl rfl)
theorem dX1_takes_18 : decode cX1_takes 18 = .ok (.dup, 1) := dk_89 (dk_at dksX1_takes_0 18 rfl rfl)
theorem dX1_takes_19 : decode cX1_takes 19 = .ok (.getfield 144, 3) := dk_180 0 144 (dk_at dksX1_takes_0 19 rfl rfl)
theorem dX1_takes_22 : decode cX1_takes 22 = .ok (.getstatic 165, 3) := dk_178 0 165 (dk_at dksX1_takes_1 0 rfl rfl)
theorem dX1_takes_25 : decode cX1_takes 25 = .ok (.iload_n 2, 1) := dk_28 (dk_at dksX1_takes_1 3 rfl rfl)
theorem dX1_takes_26 : decode cX1_takes 26 = .ok (.aaload, 1) := dk_50 (dk_at dksX1_takes_1 4 rfl rfl)
theorem dX1_takes_27 : decode cX1_takes 27 = .ok (.invokevirtual 169, 3) := dk_182 0 169 (dk_at dksX1_takes_1 5 rfl rfl)
theorem dX1_takes_30 : decode cX1_takes 30 = .ok (.isub, 1) := dk_100 (dk_at dksX1_takes_1 8 rfl rfl)
theorem dX1_takes_31 : decode cX1_takes 31 = .ok (.putfield 144, 3) := dk_181 0 144 (dk_at dksX1_takes_1 9 rfl rfl)
theorem dX1_takes_34 : decode cX1_takes 34 = .ok (.return_, 1) := dk_177 (dk_at dksX1_takes_1 12 rfl rfl)
abbrev cX1_pushFrom : ByteArray := prog_20_method_10_code
def yX1_pushFrom : MethodName := ⟨RX1, "pushFrom", "(LTubBites$Bobber;LTubBites$Apple;)V"⟩
def dkwX1_pushFrom_1 : List UInt8 := [42, 44, 29, 21, 4, 182, 0, 90, 87, 177]
abbrev dktX1_pushFrom_1 : List UInt8 := dkwX1_pushFrom_1 ++ []
def dkwX1_pushFrom_0 : List UInt8 := [42, 43, 44, 182, 0, 111, 62, 42, 43, 44, 182, 0, 115, 54, 4, 29, 154, 0, 8, 21, 4, 153, 0, 12]
abbrev dktX1_pushFrom_0 : List UInt8 := dkwX1_pushFrom_0 ++ dktX1_pushFrom_1
theorem dksX1_pushFrom_0 : cX1_pushFrom.data.toList.drop 0 = dktX1_pushFrom_0 := by decide +kernel
theorem dksX1_pushFrom_1 : cX1_pushFrom.data.toList.drop 24 = dktX1_pushFrom_1 := dk_seg dksX1_pushFrom_0 24 rfl rfl
theorem dX1_pushFrom_0 : decode cX1_pushFrom 0 = .ok (.aload_n 0, 1) := dk_42 (dk_at dksX1_pushFrom_0 0 rfl rfl)
theorem dX1_pushFrom_1 : decode cX1_pushFrom 1 = .ok (.aload_n 1, 1) := dk_43 (dk_at dksX1_pushFrom_0 1 rfl rfl)
theorem dX1_pushFrom_2 : decode cX1_pushFrom 2 = .ok (.aload_n 2, 1) := dk_44 (dk_at dksX1_pushFrom_0 2 rfl rfl)
theorem dX1_pushFrom_3 : decode cX1_pushFrom 3 = .ok (.invokevirtual 111, 3) := dk_182 0 111 (dk_at dksX1_pushFrom_0 3 rfl rfl)
theorem dX1_pushFrom_6 : decode cX1_pushFrom 6 = .ok (.istore_n 3, 1) := dk_62 (dk_at dksX1_pushFrom_0 6 rfl rfl)
theorem dX1_pushFrom_7 : decode cX1_pushFrom 7 = .ok (.aload_n 0, 1) := dk_42 (dk_at dksX1_pushFrom_0 7 rfl rfl)
theorem dX1_pushFrom_8 : decode cX1_pushFrom 8 = .ok (.aload_n 1, 1) := dk_43 (dk_at dksX1_pushFrom_0 8 rfl rfl)
theorem dX1_pushFrom_9 : decode cX1_pushFrom 9 = .ok (.aload_n 2, 1) := dk_44 (dk_at dksX1_pushFrom_0 9 rfl rfl)
theorem dX1_pushFrom_10 : decode cX1_pushFrom 10 = .ok (.invokevirtual 115, 3) := dk_182 0 115 (dk_at dksX1_pushFrom_0 10 rfl rfl)
theorem dX1_pushFrom_13 : decode cX1_pushFrom 13 = .ok (.istore 4, 2) := dk_54 4 (dk_at dksX1_pushFrom_0 13 rfl rfl)
theorem dX1_pushFrom_15 : decode cX1_pushFrom 15 = .ok (.iload_n 3, 1) := dk_29 (dk_at dksX1_pushFrom_0 15 rfl rfl)
theorem dX1_pushFrom_16 : decode cX1_pushFrom 16 = .ok (.ifCond .ne 8, 3) := dk_154 0 8 (dk_at dksX1_pushFrom_0 16 rfl rfl)
theorem dX1_pushFrom_19 : decode cX1_pushFrom 19 = .ok (.iload 4, 2) := dk_21 4 (dk_at dksX1_pushFrom_0 19 rfl rfl)
theorem dX1_pushFrom_21 : decode cX1_pushFrom 21 = .ok (.ifCond .eq 12, 3) := dk_153 0 12 (dk_at dksX1_pushFrom_0 21 rfl rfl)
theorem dX1_pushFrom_24 : decode cX1_pushFrom 24 = .ok (.aload_n 0, 1) := dk_42 (dk_at dksX1_pushFrom_1 0 rfl rfl)
theorem dX1_pushFrom_25 : decode cX1_pushFrom 25 = .ok (.aload_n 2, 1) := dk_44 (dk_at dksX1_pushFrom_1 1 rfl rfl)
theorem dX1_pushFrom_26 : decode cX1_pushFrom 26 = .ok (.iload_n 3, 1) := dk_29 (dk_at dksX1_pushFrom_1 2 rfl rfl)
theorem dX1_pushFrom_27 : decode cX1_pushFrom 27 = .ok (.iload 4, 2) := dk_21 4 (dk_at dksX1_pushFrom_1 3 rfl rfl)
theorem dX1_pushFrom_29 : decode cX1_pushFrom 29 = .ok (.invokevirtual 90, 3) := dk_182 0 90 (dk_at dksX1_pushFrom_1 5 rfl rfl)
theorem dX1_pushFrom_32 : decode cX1_pushFrom 32 = .ok (.pop, 1) := dk_87 (dk_at dksX1_pushFrom_1 8 rfl rfl)
theorem dX1_pushFrom_33 : decode cX1_pushFrom 33 = .ok (.return_, 1) := dk_177 (dk_at dksX1_pushFrom_1 9 rfl rfl)
abbrev cX1_push : ByteArray := prog_20_method_6_code
def yX1_push : MethodName := ⟨RX1, "push", "(LTubBites$Apple;II)Z"⟩
def dkwX1_push_3 : List UInt8 := [180, 0, 79, 29, 96, 181, 0, 79, 4, 172]
abbrev dktX1_push_3 : List UInt8 := dkwX1_push_3 ++ []
def dkwX1_push_2 : List UInt8 := [28, 29, 182, 0, 90, 154, 0, 5, 3, 172, 43, 89, 180, 0, 76, 28, 96, 181, 0, 76, 43, 89]
abbrev dktX1_push_2 : List UInt8 := dkwX1_push_2 ++ dktX1_push_3
def dkwX1_push_1 : List UInt8 := [180, 0, 76, 28, 96, 43, 180, 0, 79, 29, 96, 182, 0, 86, 58, 4, 25, 4, 198, 0, 16, 42, 25, 4]
abbrev dktX1_push_1 : List UInt8 := dkwX1_push_1 ++ dktX1_push_2
def dkwX1_push_0 : List UInt8 := [42, 43, 180, 0, 76, 28, 96, 43, 180, 0, 79, 29, 96, 182, 0, 82, 154, 0, 5, 3, 172, 42, 43]
abbrev dktX1_push_0 : List UInt8 := dkwX1_push_0 ++ dktX1_push_1
theorem dksX1_push_0 : cX1_push.data.toList.drop 0 = dktX1_push_0 := by decide +kernel
theorem dksX1_push_1 : cX1_push.data.toList.drop 23 = dktX1_push_1 := dk_seg dksX1_push_0 23 rfl rfl
theorem dksX1_push_2 : cX1_push.data.toList.drop 47 = dktX1_push_2 := dk_seg dksX1_push_1 24 rfl rfl
theorem dksX1_push_3 : cX1_push.data.toList.drop 69 = dktX1_push_3 := dk_seg dksX1_push_2 22 rfl rfl
theorem dX1_push_0 : decode cX1_push 0 = .ok (.aload_n 0, 1) := dk_42 (dk_at dksX1_push_0 0 rfl rfl)
theorem dX1_push_1 : decode cX1_push 1 = .ok (.aload_n 1, 1) := dk_43 (dk_at dksX1_push_0 1 rfl rfl)
theorem dX1_push_2 : decode cX1_push 2 = .ok (.getfield 76, 3) := dk_180 0 76 (dk_at dksX1_push_0 2 rfl rfl)
theorem dX1_push_5 : decode cX1_push 5 = .ok (.iload_n 2, 1) := dk_28 (dk_at dksX1_push_0 5 rfl rfl)
theorem dX1_push_6 : decode cX1_push 6 = .ok (.iadd, 1) := dk_96 (dk_at dksX1_push_0 6 rfl rfl)
theorem dX1_push_7 : decode cX1_push 7 = .ok (.aload_n 1, 1) := dk_43 (dk_at dksX1_push_0 7 rfl rfl)
theorem dX1_push_8 : decode cX1_push 8 = .ok (.getfield 79, 3) := dk_180 0 79 (dk_at dksX1_push_0 8 rfl rfl)
theorem dX1_push_11 : decode cX1_push 11 = .ok (.iload_n 3, 1) := dk_29 (dk_at dksX1_push_0 11 rfl rfl)
theorem dX1_push_12 : decode cX1_push 12 = .ok (.iadd, 1) := dk_96 (dk_at dksX1_push_0 12 rfl rfl)
theorem dX1_push_13 : decode cX1_push 13 = .ok (.invokevirtual 82, 3) := dk_182 0 82 (dk_at dksX1_push_0 13 rfl rfl)
theorem dX1_push_16 : decode cX1_push 16 = .ok (.ifCond .ne 5, 3) := dk_154 0 5 (dk_at dksX1_push_0 16 rfl rfl)
theorem dX1_push_19 : decode cX1_push 19 = .ok (.iconst 0, 1) := dk_3 (dk_at dksX1_push_0 19 rfl rfl)
theorem dX1_push_20 : decode cX1_push 20 = .ok (.ireturn, 1) := dk_172 (dk_at dksX1_push_0 20 rfl rfl)
theorem dX1_push_21 : decode cX1_push 21 = .ok (.aload_n 0, 1) := dk_42 (dk_at dksX1_push_0 21 rfl rfl)
theorem dX1_push_22 : decode cX1_push 22 = .ok (.aload_n 1, 1) := dk_43 (dk_at dksX1_push_0 22 rfl rfl)
theorem dX1_push_23 : decode cX1_push 23 = .ok (.getfield 76, 3) := dk_180 0 76 (dk_at dksX1_push_1 0 rfl rfl)
theorem dX1_push_26 : decode cX1_push 26 = .ok (.iload_n 2, 1) := dk_28 (dk_at dksX1_push_1 3 rfl rfl)
theorem dX1_push_27 : decode cX1_push 27 = .ok (.iadd, 1) := dk_96 (dk_at dksX1_push_1 4 rfl rfl)
theorem dX1_push_28 : decode cX1_push 28 = .ok (.aload_n 1, 1) := dk_43 (dk_at dksX1_push_1 5 rfl rfl)
theorem dX1_push_29 : decode cX1_push 29 = .ok (.getfield 79, 3) := dk_180 0 79 (dk_at dksX1_push_1 6 rfl rfl)
theorem dX1_push_32 : decode cX1_push 32 = .ok (.iload_n 3, 1) := dk_29 (dk_at dksX1_push_1 9 rfl rfl)
theorem dX1_push_33 : decode cX1_push 33 = .ok (.iadd, 1) := dk_96 (dk_at dksX1_push_1 10 rfl rfl)
theorem dX1_push_34 : decode cX1_push 34 = .ok (.invokevirtual 86, 3) := dk_182 0 86 (dk_at dksX1_push_1 11 rfl rfl)
theorem dX1_push_37 : decode cX1_push 37 = .ok (.astore 4, 2) := dk_58 4 (dk_at dksX1_push_1 14 rfl rfl)
theorem dX1_push_39 : decode cX1_push 39 = .ok (.aload 4, 2) := dk_25 4 (dk_at dksX1_push_1 16 rfl rfl)
theorem dX1_push_41 : decode cX1_push 41 = .ok (.ifnull 16, 3) := dk_198 0 16 (dk_at dksX1_push_1 18 rfl rfl)
theorem dX1_push_44 : decode cX1_push 44 = .ok (.aload_n 0, 1) := dk_42 (dk_at dksX1_push_1 21 rfl rfl)
theorem dX1_push_45 : decode cX1_push 45 = .ok (.aload 4, 2) := dk_25 4 (dk_at dksX1_push_1 22 rfl rfl)
theorem dX1_push_47 : decode cX1_push 47 = .ok (.iload_n 2, 1) := dk_28 (dk_at dksX1_push_2 0 rfl rfl)
theorem dX1_push_48 : decode cX1_push 48 = .ok (.iload_n 3, 1) := dk_29 (dk_at dksX1_push_2 1 rfl rfl)
theorem dX1_push_49 : decode cX1_push 49 = .ok (.invokevirtual 90, 3) := dk_182 0 90 (dk_at dksX1_push_2 2 rfl rfl)
theorem dX1_push_52 : decode cX1_push 52 = .ok (.ifCond .ne 5, 3) := dk_154 0 5 (dk_at dksX1_push_2 5 rfl rfl)
theorem dX1_push_55 : decode cX1_push 55 = .ok (.iconst 0, 1) := dk_3 (dk_at dksX1_push_2 8 rfl rfl)
theorem dX1_push_56 : decode cX1_push 56 = .ok (.ireturn, 1) := dk_172 (dk_at dksX1_push_2 9 rfl rfl)
theorem dX1_push_57 : decode cX1_push 57 = .ok (.aload_n 1, 1) := dk_43 (dk_at dksX1_push_2 10 rfl rfl)
theorem dX1_push_58 : decode cX1_push 58 = .ok (.dup, 1) := dk_89 (dk_at dksX1_push_2 11 rfl rfl)
theorem dX1_push_59 : decode cX1_push 59 = .ok (.getfield 76, 3) := dk_180 0 76 (dk_at dksX1_push_2 12 rfl rfl)
theorem dX1_push_62 : decode cX1_push 62 = .ok (.iload_n 2, 1) := dk_28 (dk_at dksX1_push_2 15 rfl rfl)
theorem dX1_push_63 : decode cX1_push 63 = .ok (.iadd, 1) := dk_96 (dk_at dksX1_push_2 16 rfl rfl)
theorem dX1_push_64 : decode cX1_push 64 = .ok (.putfield 76, 3) := dk_181 0 76 (dk_at dksX1_push_2 17 rfl rfl)
theorem dX1_push_67 : decode cX1_push 67 = .ok (.aload_n 1, 1) := dk_43 (dk_at dksX1_push_2 20 rfl rfl)
theorem dX1_push_68 : decode cX1_push 68 = .ok (.dup, 1) := dk_89 (dk_at dksX1_push_2 21 rfl rfl)
theorem dX1_push_69 : decode cX1_push 69 = .ok (.getfield 79, 3) := dk_180 0 79 (dk_at dksX1_push_3 0 rfl rfl)
theorem dX1_push_72 : decode cX1_push 72 = .ok (.iload_n 3, 1) := dk_29 (dk_at dksX1_push_3 3 rfl rfl)
theorem dX1_push_73 : decode cX1_push 73 = .ok (.iadd, 1) := dk_96 (dk_at dksX1_push_3 4 rfl rfl)
theorem dX1_push_74 : decode cX1_push 74 = .ok (.putfield 79, 3) := dk_181 0 79 (dk_at dksX1_push_3 5 rfl rfl)
theorem dX1_push_77 : decode cX1_push 77 = .ok (.iconst 1, 1) := dk_4 (dk_at dksX1_push_3 8 rfl rfl)
theorem dX1_push_78 : decode cX1_push 78 = .ok (.ireturn, 1) := dk_172 (dk_at dksX1_push_3 9 rfl rfl)
abbrev cX1_isCell : ByteArray := prog_20_method_2_code
def yX1_isCell : MethodName := ⟨RX1, "isCell", "(II)Z"⟩
def dkwX1_isCell_1 : List UInt8 := [184, 0, 44, 153, 0, 7, 4, 167, 0, 4, 3, 172]
abbrev dktX1_isCell_1 : List UInt8 := dkwX1_isCell_1 ++ []
def dkwX1_isCell_0 : List UInt8 := [27, 3, 42, 180, 0, 41, 4, 100, 184, 0, 44, 153, 0, 21, 28, 3, 42, 180, 0, 48, 4, 100]
abbrev dktX1_isCell_0 : List UInt8 := dkwX1_isCell_0 ++ dktX1_isCell_1
theorem dksX1_isCell_0 : cX1_isCell.data.toList.drop 0 = dktX1_isCell_0 := by decide +kernel
theorem dksX1_isCell_1 : cX1_isCell.data.toList.drop 22 = dktX1_isCell_1 := dk_seg dksX1_isCell_0 22 rfl rfl
theorem dX1_isCell_0 : decode cX1_isCell 0 = .ok (.iload_n 1, 1) := dk_27 (dk_at dksX1_isCell_0 0 rfl rfl)
theorem dX1_isCell_1 : decode cX1_isCell 1 = .ok (.iconst 0, 1) := dk_3 (dk_at dksX1_isCell_0 1 rfl rfl)
theorem dX1_isCell_2 : decode cX1_isCell 2 = .ok (.aload_n 0, 1) := dk_42 (dk_at dksX1_isCell_0 2 rfl rfl)
theorem dX1_isCell_3 : decode cX1_isCell 3 = .ok (.getfield 41, 3) := dk_180 0 41 (dk_at dksX1_isCell_0 3 rfl rfl)
theorem dX1_isCell_6 : decode cX1_isCell 6 = .ok (.iconst 1, 1) := dk_4 (dk_at dksX1_isCell_0 6 rfl rfl)
theorem dX1_isCell_7 : decode cX1_isCell 7 = .ok (.isub, 1) := dk_100 (dk_at dksX1_isCell_0 7 rfl rfl)
theorem dX1_isCell_8 : decode cX1_isCell 8 = .ok (.invokestatic 44, 3) := dk_184 0 44 (dk_at dksX1_isCell_0 8 rfl rfl)
theorem dX1_isCell_11 : decode cX1_isCell 11 = .ok (.ifCond .eq 21, 3) := dk_153 0 21 (dk_at dksX1_isCell_0 11 rfl rfl)
theorem dX1_isCell_14 : decode cX1_isCell 14 = .ok (.iload_n 2, 1) := dk_28 (dk_at dksX1_isCell_0 14 rfl rfl)
theorem dX1_isCell_15 : decode cX1_isCell 15 = .ok (.iconst 0, 1) := dk_3 (dk_at dksX1_isCell_0 15 rfl rfl)
theorem dX1_isCell_16 : decode cX1_isCell 16 = .ok (.aload_n 0, 1) := dk_42 (dk_at dksX1_isCell_0 16 rfl rfl)
theorem dX1_isCell_17 : decode cX1_isCell 17 = .ok (.getfield 48, 3) := dk_180 0 48 (dk_at dksX1_isCell_0 17 rfl rfl)
theorem dX1_isCell_20 : decode cX1_isCell 20 = .ok (.iconst 1, 1) := dk_4 (dk_at dksX1_isCell_0 20 rfl rfl)
theorem dX1_isCell_21 : decode cX1_isCell 21 = .ok (.isub, 1) := dk_100 (dk_at dksX1_isCell_0 21 rfl rfl)
theorem dX1_isCell_22 : decode cX1_isCell 22 = .ok (.invokestatic 44, 3) := dk_184 0 44 (dk_at dksX1_isCell_1 0 rfl rfl)
theorem dX1_isCell_25 : decode cX1_isCell 25 = .ok (.ifCond .eq 7, 3) := dk_153 0 7 (dk_at dksX1_isCell_1 3 rfl rfl)
theorem dX1_isCell_28 : decode cX1_isCell 28 = .ok (.iconst 1, 1) := dk_4 (dk_at dksX1_isCell_1 6 rfl rfl)
theorem dX1_isCell_29 : decode cX1_isCell 29 = .ok (.goto 4, 3) := dk_167 0 4 (dk_at dksX1_isCell_1 7 rfl rfl)
theorem dX1_isCell_32 : decode cX1_isCell 32 = .ok (.iconst 0, 1) := dk_3 (dk_at dksX1_isCell_1 10 rfl rfl)
theorem dX1_isCell_33 : decode cX1_isCell 33 = .ok (.ireturn, 1) := dk_172 (dk_at dksX1_isCell_1 11 rfl rfl)
abbrev cX1_breathes : ByteArray := prog_20_method_18_code
def yX1_breathes : MethodName := ⟨RX1, "breathes", "(LTubBites$Bobber;)V"⟩
def dkwX1_breathes_0 : List UInt8 := [43, 89, 180, 0, 194, 5, 96, 181, 0, 194, 43, 43, 180, 0, 212, 181, 0, 144, 177]
abbrev dktX1_breathes_0 : List UInt8 := dkwX1_breathes_0 ++ []
theorem dksX1_breathes_0 : cX1_breathes.data.toList.drop 0 = dktX1_breathes_0 := by decide +kernel
theorem dX1_breathes_0 : decode cX1_breathes 0 = .ok (.aload_n 1, 1) := dk_43 (dk_at dksX1_breathes_0 0 rfl rfl)
theorem dX1_breathes_1 : decode cX1_breathes 1 = .ok (.dup, 1) := dk_89 (dk_at dksX1_breathes_0 1 rfl rfl)
theorem dX1_breathes_2 : decode cX1_breathes 2 = .ok (.getfield 194, 3) := dk_180 0 194 (dk_at dksX1_breathes_0 2 rfl rfl)
theorem dX1_breathes_5 : decode cX1_breathes 5 = .ok (.iconst 2, 1) := dk_5 (dk_at dksX1_breathes_0 5 rfl rfl)
theorem dX1_breathes_6 : decode cX1_breathes 6 = .ok (.iadd, 1) := dk_96 (dk_at dksX1_breathes_0 6 rfl rfl)
theorem dX1_breathes_7 : decode cX1_breathes 7 = .ok (.putfield 194, 3) := dk_181 0 194 (dk_at dksX1_breathes_0 7 rfl rfl)
theorem dX1_breathes_10 : decode cX1_breathes 10 = .ok (.aload_n 1, 1) := dk_43 (dk_at dksX1_breathes_0 10 rfl rfl)
theorem dX1_breathes_11 : decode cX1_breathes 11 = .ok (.aload_n 1, 1) := dk_43 (dk_at dksX1_breathes_0 11 rfl rfl)
theorem dX1_breathes_12 : decode cX1_breathes 12 = .ok (.getfield 212, 3) := dk_180 0 212 (dk_at dksX1_breathes_0 12 rfl rfl)
theorem dX1_breathes_15 : decode cX1_breathes 15 = .ok (.putfield 144, 3) := dk_181 0 144 (dk_at dksX1_breathes_0 15 rfl rfl)
theorem dX1_breathes_18 : decode cX1_breathes 18 = .ok (.return_, 1) := dk_177 (dk_at dksX1_breathes_0 18 rfl rfl)
abbrev cX1_wave : ByteArray := prog_20_method_21_code
def yX1_wave : MethodName := ⟨RX1, "wave", "(I)I"⟩
def dkwX1_wave_7 : List UInt8 := [153, 0, 6, 132, 4, 1, 132, 6, 1, 167, 255, 154, 132, 5, 1, 167, 255, 125, 21, 4, 172]
abbrev dktX1_wave_7 : List UInt8 := dkwX1_wave_7 ++ []
def dkwX1_wave_6 : List UInt8 := [21, 6, 21, 7, 182, 0, 86, 58, 8, 25, 8, 198, 0, 17, 42, 25, 8, 28, 29, 182, 0, 226]
abbrev dktX1_wave_6 : List UInt8 := dkwX1_wave_6 ++ dktX1_wave_7
def dkwX1_wave_5 : List UInt8 := [167, 0, 5, 21, 5, 54, 7, 28, 153, 0, 14, 42, 21, 7, 21, 6, 182, 0, 86, 167, 0, 11, 42]
abbrev dktX1_wave_5 : List UInt8 := dkwX1_wave_5 ++ dktX1_wave_6
def dkwX1_wave_4 : List UInt8 := [158, 0, 26, 28, 153, 0, 10, 42, 180, 0, 41, 167, 0, 7, 42, 180, 0, 48, 4, 100, 21, 5, 100]
abbrev dktX1_wave_4 : List UInt8 := dkwX1_wave_4 ++ dktX1_wave_5
def dkwX1_wave_3 : List UInt8 := [153, 0, 10, 42, 180, 0, 48, 167, 0, 7, 42, 180, 0, 41, 162, 0, 88, 28, 157, 0, 7, 29]
abbrev dktX1_wave_3 : List UInt8 := dkwX1_wave_3 ++ dktX1_wave_4
def dkwX1_wave_2 : List UInt8 := [153, 0, 10, 42, 180, 0, 41, 167, 0, 7, 42, 180, 0, 48, 162, 0, 117, 3, 54, 6, 21, 6, 28]
abbrev dktX1_wave_2 : List UInt8 := dkwX1_wave_2 ++ dktX1_wave_3
def dkwX1_wave_1 : List UInt8 := [4, 167, 0, 13, 27, 6, 160, 0, 7, 2, 167, 0, 4, 3, 62, 3, 54, 4, 3, 54, 5, 21, 5, 28]
abbrev dktX1_wave_1 : List UInt8 := dkwX1_wave_1 ++ dktX1_wave_2
def dkwX1_wave_0 : List UInt8 := [27, 154, 0, 7, 2, 167, 0, 13, 27, 4, 160, 0, 7, 4, 167, 0, 4, 3, 61, 27, 5, 160, 0, 7]
abbrev dktX1_wave_0 : List UInt8 := dkwX1_wave_0 ++ dktX1_wave_1
theorem dksX1_wave_0 : cX1_wave.data.toList.drop 0 = dktX1_wave_0 := by decide +kernel
theorem dksX1_wave_1 : cX1_wave.data.toList.drop 24 = dktX1_wave_1 := dk_seg dksX1_wave_0 24 rfl rfl
theorem dksX1_wave_2 : cX1_wave.data.toList.drop 48 = dktX1_wave_2 := dk_seg dksX1_wave_1 24 rfl rfl
theorem dksX1_wave_3 : cX1_wave.data.toList.drop 71 = dktX1_wave_3 := dk_seg dksX1_wave_2 23 rfl rfl
theorem dksX1_wave_4 : cX1_wave.data.toList.drop 93 = dktX1_wave_4 := dk_seg dksX1_wave_3 22 rfl rfl
theorem dksX1_wave_5 : cX1_wave.data.toList.drop 116 = dktX1_wave_5 := dk_seg dksX1_wave_4 23 rfl rfl
theorem dksX1_wave_6 : cX1_wave.data.toList.drop 139 = dktX1_wave_6 := dk_seg dksX1_wave_5 23 rfl rfl
theorem dksX1_wave_7 : cX1_wave.data.toList.drop 161 = dktX1_wave_7 := dk_seg dksX1_wave_6 22 rfl rfl
theorem dX1_wave_0 : decode cX1_wave 0 = .ok (.iload_n 1, 1) := dk_27 (dk_at dksX1_wave_0 0 rfl rfl)
theorem dX1_wave_1 : decode cX1_wave 1 = .ok (.ifCond .ne 7, 3) := dk_154 0 7 (dk_at dksX1_wave_0 1 rfl rfl)
theorem dX1_wave_4 : decode cX1_wave 4 = .ok (.iconst (-1), 1) := dk_2 (dk_at dksX1_wave_0 4 rfl rfl)
theorem dX1_wave_5 : decode cX1_wave 5 = .ok (.goto 13, 3) := dk_167 0 13 (dk_at dksX1_wave_0 5 rfl rfl)
theorem dX1_wave_8 : decode cX1_wave 8 = .ok (.iload_n 1, 1) := dk_27 (dk_at dksX1_wave_0 8 rfl rfl)
theorem dX1_wave_9 : decode cX1_wave 9 = .ok (.iconst 1, 1) := dk_4 (dk_at dksX1_wave_0 9 rfl rfl)
theorem dX1_wave_10 : decode cX1_wave 10 = .ok (.if_icmp .ne 7, 3) := dk_160 0 7 (dk_at dksX1_wave_0 10 rfl rfl)
theorem dX1_wave_13 : decode cX1_wave 13 = .ok (.iconst 1, 1) := dk_4 (dk_at dksX1_wave_0 13 rfl rfl)
theorem dX1_wave_14 : decode cX1_wave 14 = .ok (.goto 4, 3) := dk_167 0 4 (dk_at dksX1_wave_0 14 rfl rfl)
theorem dX1_wave_17 : decode cX1_wave 17 = .ok (.iconst 0, 1) := dk_3 (dk_at dksX1_wave_0 17 rfl rfl)
theorem dX1_wave_18 : decode cX1_wave 18 = .ok (.istore_n 2, 1) := dk_61 (dk_at dksX1_wave_0 18 rfl rfl)
theorem dX1_wave_19 : decode cX1_wave 19 = .ok (.iload_n 1, 1) := dk_27 (dk_at dksX1_wave_0 19 rfl rfl)
theorem dX1_wave_20 : decode cX1_wave 20 = .ok (.iconst 2, 1) := dk_5 (dk_at dksX1_wave_0 20 rfl rfl)
theorem dX1_wave_21 : decode cX1_wave 21 = .ok (.if_icmp .ne 7, 3) := dk_160 0 7 (dk_at dksX1_wave_0 21 rfl rfl)
theorem dX1_wave_24 : decode cX1_wave 24 = .ok (.iconst 1, 1) := dk_4 (dk_at dksX1_wave_1 0 rfl rfl)
theorem dX1_wave_25 : decode cX1_wave 25 = .ok (.goto 13, 3) := dk_167 0 13 (dk_at dksX1_wave_1 1 rfl rfl)
theorem dX1_wave_28 : decode cX1_wave 28 = .ok (.iload_n 1, 1) := dk_27 (dk_at dksX1_wave_1 4 rfl rfl)
theorem dX1_wave_29 : decode cX1_wave 29 = .ok (.iconst 3, 1) := dk_6 (dk_at dksX1_wave_1 5 rfl rfl)
theorem dX1_wave_30 : decode cX1_wave 30 = .ok (.if_icmp .ne 7, 3) := dk_160 0 7 (dk_at dksX1_wave_1 6 rfl rfl)
theorem dX1_wave_33 : decode cX1_wave 33 = .ok (.iconst (-1), 1) := dk_2 (dk_at dksX1_wave_1 9 rfl rfl)
theorem dX1_wave_34 : decode cX1_wave 34 = .ok (.goto 4, 3) := dk_167 0 4 (dk_at dksX1_wave_1 10 rfl rfl)
theorem dX1_wave_37 : decode cX1_wave 37 = .ok (.iconst 0, 1) := dk_3 (dk_at dksX1_wave_1 13 rfl rfl)
theorem dX1_wave_38 : decode cX1_wave 38 = .ok (.istore_n 3, 1) := dk_62 (dk_at dksX1_wave_1 14 rfl rfl)
theorem dX1_wave_39 : decode cX1_wave 39 = .ok (.iconst 0, 1) := dk_3 (dk_at dksX1_wave_1 15 rfl rfl)
theorem dX1_wave_40 : decode cX1_wave 40 = .ok (.istore 4, 2) := dk_54 4 (dk_at dksX1_wave_1 16 rfl rfl)
theorem dX1_wave_42 : decode cX1_wave 42 = .ok (.iconst 0, 1) := dk_3 (dk_at dksX1_wave_1 18 rfl rfl)
theorem dX1_wave_43 : decode cX1_wave 43 = .ok (.istore 5, 2) := dk_54 5 (dk_at dksX1_wave_1 19 rfl rfl)
theorem dX1_wave_45 : decode cX1_wave 45 = .ok (.iload 5, 2) := dk_21 5 (dk_at dksX1_wave_1 21 rfl rfl)
theorem dX1_wave_47 : decode cX1_wave 47 = .ok (.iload_n 2, 1) := dk_28 (dk_at dksX1_wave_1 23 rfl rfl)
theorem dX1_wave_48 : decode cX1_wave 48 = .ok (.ifCond .eq 10, 3) := dk_153 0 10 (dk_at dksX1_wave_2 0 rfl rfl)
theorem dX1_wave_51 : decode cX1_wave 51 = .ok (.aload_n 0, 1) := dk_42 (dk_at dksX1_wave_2 3 rfl rfl)
theorem dX1_wave_52 : decode cX1_wave 52 = .ok (.getfield 41, 3) := dk_180 0 41 (dk_at dksX1_wave_2 4 rfl rfl)
theorem dX1_wave_55 : decode cX1_wave 55 = .ok (.goto 7, 3) := dk_167 0 7 (dk_at dksX1_wave_2 7 rfl rfl)
theorem dX1_wave_58 : decode cX1_wave 58 = .ok (.aload_n 0, 1) := dk_42 (dk_at dksX1_wave_2 10 rfl rfl)
theorem dX1_wave_59 : decode cX1_wave 59 = .ok (.getfield 48, 3) := dk_180 0 48 (dk_at dksX1_wave_2 11 rfl rfl)
theorem dX1_wave_62 : decode cX1_wave 62 = .ok (.if_icmp .ge 117, 3) := dk_162 0 117 (dk_at dksX1_wave_2 14 rfl rfl)
theorem dX1_wave_65 : decode cX1_wave 65 = .ok (.iconst 0, 1) := dk_3 (dk_at dksX1_wave_2 17 rfl rfl)
theorem dX1_wave_66 : decode cX1_wave 66 = .ok (.istore 6, 2) := dk_54 6 (dk_at dksX1_wave_2 18 rfl rfl)
theorem dX1_wave_68 : decode cX1_wave 68 = .ok (.iload 6, 2) := dk_21 6 (dk_at dksX1_wave_2 20 rfl rfl)
theorem dX1_wave_70 : decode cX1_wave 70 = .ok (.iload_n 2, 1) := dk_28 (dk_at dksX1_wave_2 22 rfl rfl)
theorem dX1_wave_71 : decode cX1_wave 71 = .ok (.ifCond .eq 10, 3) := dk_153 0 10 (dk_at dksX1_wave_3 0 rfl rfl)
theorem dX1_wave_74 : decode cX1_wave 74 = .ok (.aload_n 0, 1) := dk_42 (dk_at dksX1_wave_3 3 rfl rfl)
theorem dX1_wave_75 : decode cX1_wave 75 = .ok (.getfield 48, 3) := dk_180 0 48 (dk_at dksX1_wave_3 4 rfl rfl)
theorem dX1_wave_78 : decode cX1_wave 78 = .ok (.goto 7, 3) := dk_167 0 7 (dk_at dksX1_wave_3 7 rfl rfl)
theorem dX1_wave_81 : decode cX1_wave 81 = .ok (.aload_n 0, 1) := dk_42 (dk_at dksX1_wave_3 10 rfl rfl)
theorem dX1_wave_82 : decode cX1_wave 82 = .ok (.getfield 41, 3) := dk_180 0 41 (dk_at dksX1_wave_3 11 rfl rfl)
theorem dX1_wave_85 : decode cX1_wave 85 = .ok (.if_icmp .ge 88, 3) := dk_162 0 88 (dk_at dksX1_wave_3 14 rfl rfl)
theorem dX1_wave_88 : decode cX1_wave 88 = .ok (.iload_n 2, 1) := dk_28 (dk_at dksX1_wave_3 17 rfl rfl)
theorem dX1_wave_89 : decode cX1_wave 89 = .ok (.ifCond .gt 7, 3) := dk_157 0 7 (dk_at dksX1_wave_3 18 rfl rfl)
theorem dX1_wave_92 : decode cX1_wave 92 = .ok (.iload_n 3, 1) := dk_29 (dk_at dksX1_wave_3 21 rfl rfl)
theorem dX1_wave_93 : decode cX1_wave 93 = .ok (.ifCond .le 26, 3) := dk_158 0 26 (dk_at dksX1_wave_4 0 rfl rfl)
theorem dX1_wave_96 : decode cX1_wave 96 = .ok (.iload_n 2, 1) := dk_28 (dk_at dksX1_wave_4 3 rfl rfl)
theorem dX1_wave_97 : decode cX1_wave 97 = .ok (.ifCond .eq 10, 3) := dk_153 0 10 (dk_at dksX1_wave_4 4 rfl rfl)
theorem dX1_wave_100 : decode cX1_wave 100 = .ok (.aload_n 0, 1) := dk_42 (dk_at dksX1_wave_4 7 rfl rfl)
theorem dX1_wave_101 : decode cX1_wave 101 = .ok (.getfield 41, 3) := dk_180 0 41 (dk_at dksX1_wave_4 8 rfl rfl)
theorem dX1_wave_104 : decode cX1_wave 104 = .ok (.goto 7, 3) := dk_167 0 7 (dk_at dksX1_wave_4 11 rfl rfl)
theorem dX1_wave_107 : decode cX1_wave 107 = .ok (.aload_n 0, 1) := dk_42 (dk_at dksX1_wave_4 14 rfl rfl)
theorem dX1_wave_108 : decode cX1_wave 108 = .ok (.getfield 48, 3) := dk_180 0 48 (dk_at dksX1_wave_4 15 rfl rfl)
theorem dX1_wave_111 : decode cX1_wave 111 = .ok (.iconst 1, 1) := dk_4 (dk_at dksX1_wave_4 18 rfl rfl)
theorem dX1_wave_112 : decode cX1_wave 112 = .ok (.isub, 1) := dk_100 (dk_at dksX1_wave_4 19 rfl rfl)
theorem dX1_wave_113 : decode cX1_wave 113 = .ok (.iload 5, 2) := dk_21 5 (dk_at dksX1_wave_4 20 rfl rfl)
theorem dX1_wave_115 : decode cX1_wave 115 = .ok (.isub, 1) := dk_100 (dk_at dksX1_wave_4 22 rfl rfl)
theorem dX1_wave_116 : decode cX1_wave 116 = .ok (.goto 5, 3) := dk_167 0 5 (dk_at dksX1_wave_5 0 rfl rfl)
theorem dX1_wave_119 : decode cX1_wave 119 = .ok (.iload 5, 2) := dk_21 5 (dk_at dksX1_wave_5 3 rfl rfl)
theorem dX1_wave_121 : decode cX1_wave 121 = .ok (.istore 7, 2) := dk_54 7 (dk_at dksX1_wave_5 5 rfl rfl)
theorem dX1_wave_123 : decode cX1_wave 123 = .ok (.iload_n 2, 1) := dk_28 (dk_at dksX1_wave_5 7 rfl rfl)
theorem dX1_wave_124 : decode cX1_wave 124 = .ok (.ifCond .eq 14, 3) := dk_153 0 14 (dk_at dksX1_wave_5 8 rfl rfl)
theorem dX1_wave_127 : decode cX1_wave 127 = .ok (.aload_n 0, 1) := dk_42 (dk_at dksX1_wave_5 11 rfl rfl)
theorem dX1_wave_128 : decode cX1_wave 128 = .ok (.iload 7, 2) := dk_21 7 (dk_at dksX1_wave_5 12 rfl rfl)
theorem dX1_wave_130 : decode cX1_wave 130 = .ok (.iload 6, 2) := dk_21 6 (dk_at dksX1_wave_5 14 rfl rfl)
theorem dX1_wave_132 : decode cX1_wave 132 = .ok (.invokevirtual 86, 3) := dk_182 0 86 (dk_at dksX1_wave_5 16 rfl rfl)
theorem dX1_wave_135 : decode cX1_wave 135 = .ok (.goto 11, 3) := dk_167 0 11 (dk_at dksX1_wave_5 19 rfl rfl)
theorem dX1_wave_138 : decode cX1_wave 138 = .ok (.aload_n 0, 1) := dk_42 (dk_at dksX1_wave_5 22 rfl rfl)
theorem dX1_wave_139 : decode cX1_wave 139 = .ok (.iload 6, 2) := dk_21 6 (dk_at dksX1_wave_6 0 rfl rfl)
theorem dX1_wave_141 : decode cX1_wave 141 = .ok (.iload 7, 2) := dk_21 7 (dk_at dksX1_wave_6 2 rfl rfl)
theorem dX1_wave_143 : decode cX1_wave 143 = .ok (.invokevirtual 86, 3) := dk_182 0 86 (dk_at dksX1_wave_6 4 rfl rfl)
theorem dX1_wave_146 : decode cX1_wave 146 = .ok (.astore 8, 2) := dk_58 8 (dk_at dksX1_wave_6 7 rfl rfl)
theorem dX1_wave_148 : decode cX1_wave 148 = .ok (.aload 8, 2) := dk_25 8 (dk_at dksX1_wave_6 9 rfl rfl)
theorem dX1_wave_150 : decode cX1_wave 150 = .ok (.ifnull 17, 3) := dk_198 0 17 (dk_at dksX1_wave_6 11 rfl rfl)
theorem dX1_wave_153 : decode cX1_wave 153 = .ok (.aload_n 0, 1) := dk_42 (dk_at dksX1_wave_6 14 rfl rfl)
theorem dX1_wave_154 : decode cX1_wave 154 = .ok (.aload 8, 2) := dk_25 8 (dk_at dksX1_wave_6 15 rfl rfl)
theorem dX1_wave_156 : decode cX1_wave 156 = .ok (.iload_n 2, 1) := dk_28 (dk_at dksX1_wave_6 17 rfl rfl)
theorem dX1_wave_157 : decode cX1_wave 157 = .ok (.iload_n 3, 1) := dk_29 (dk_at dksX1_wave_6 18 rfl rfl)
theorem dX1_wave_158 : decode cX1_wave 158 = .ok (.invokevirtual 226, 3) := dk_182 0 226 (dk_at dksX1_wave_6 19 rfl rfl)
theorem dX1_wave_161 : decode cX1_wave 161 = .ok (.ifCond .eq 6, 3) := dk_153 0 6 (dk_at dksX1_wave_7 0 rfl rfl)
theorem dX1_wave_164 : decode cX1_wave 164 = .ok (.iinc 4 1, 3) := dk_132 4 1 (dk_at dksX1_wave_7 3 rfl rfl)
theorem dX1_wave_167 : decode cX1_wave 167 = .ok (.iinc 6 1, 3) := dk_132 6 1 (dk_at dksX1_wave_7 6 rfl rfl)
theorem dX1_wave_170 : decode cX1_wave 170 = .ok (.goto (-102), 3) := dk_167 255 154 (dk_at dksX1_wave_7 9 rfl rfl)
theorem dX1_wave_173 : decode cX1_wave 173 = .ok (.iinc 5 1, 3) := dk_132 5 1 (dk_at dksX1_wave_7 12 rfl rfl)
theorem dX1_wave_176 : decode cX1_wave 176 = .ok (.goto (-131), 3) := dk_167 255 125 (dk_at dksX1_wave_7 15 rfl rfl)
theorem dX1_wave_179 : decode cX1_wave 179 = .ok (.iload 4, 2) := dk_21 4 (dk_at dksX1_wave_7 18 rfl rfl)
theorem dX1_wave_181 : decode cX1_wave 181 = .ok (.ireturn, 1) := dk_172 (dk_at dksX1_wave_7 20 rfl rfl)
abbrev cX1_drifts : ByteArray := prog_20_method_20_code
def yX1_drifts : MethodName := ⟨RX1, "drifts", "(LTubBites$Apple;II)Z"⟩
def dkwX1_drifts_2 : List UInt8 := [181, 0, 76, 43, 89, 180, 0, 79, 29, 96, 181, 0, 79, 4, 172]
abbrev dktX1_drifts_2 : List UInt8 := dkwX1_drifts_2 ++ []
def dkwX1_drifts_1 : List UInt8 := [28, 96, 43, 180, 0, 79, 29, 96, 182, 0, 86, 198, 0, 5, 3, 172, 43, 89, 180, 0, 76, 28, 96]
abbrev dktX1_drifts_1 : List UInt8 := dkwX1_drifts_1 ++ dktX1_drifts_2
def dkwX1_drifts_0 : List UInt8 := [42, 43, 180, 0, 76, 28, 96, 43, 180, 0, 79, 29, 96, 182, 0, 82, 153, 0, 22, 42, 43, 180, 0, 76]
abbrev dktX1_drifts_0 : List UInt8 := dkwX1_drifts_0 ++ dktX1_drifts_1
theorem dksX1_drifts_0 : cX1_drifts.data.toList.drop 0 = dktX1_drifts_0 := by decide +kernel
theorem dksX1_drifts_1 : cX1_drifts.data.toList.drop 24 = dktX1_drifts_1 := dk_seg dksX1_drifts_0 24 rfl rfl
theorem dksX1_drifts_2 : cX1_drifts.data.toList.drop 47 = dktX1_drifts_2 := dk_seg dksX1_drifts_1 23 rfl rfl
theorem dX1_drifts_0 : decode cX1_drifts 0 = .ok (.aload_n 0, 1) := dk_42 (dk_at dksX1_drifts_0 0 rfl rfl)
theorem dX1_drifts_1 : decode cX1_drifts 1 = .ok (.aload_n 1, 1) := dk_43 (dk_at dksX1_drifts_0 1 rfl rfl)
theorem dX1_drifts_2 : decode cX1_drifts 2 = .ok (.getfield 76, 3) := dk_180 0 76 (dk_at dksX1_drifts_0 2 rfl rfl)
theorem dX1_drifts_5 : decode cX1_drifts 5 = .ok (.iload_n 2, 1) := dk_28 (dk_at dksX1_drifts_0 5 rfl rfl)
theorem dX1_drifts_6 : decode cX1_drifts 6 = .ok (.iadd, 1) := dk_96 (dk_at dksX1_drifts_0 6 rfl rfl)
theorem dX1_drifts_7 : decode cX1_drifts 7 = .ok (.aload_n 1, 1) := dk_43 (dk_at dksX1_drifts_0 7 rfl rfl)
theorem dX1_drifts_8 : decode cX1_drifts 8 = .ok (.getfield 79, 3) := dk_180 0 79 (dk_at dksX1_drifts_0 8 rfl rfl)
theorem dX1_drifts_11 : decode cX1_drifts 11 = .ok (.iload_n 3, 1) := dk_29 (dk_at dksX1_drifts_0 11 rfl rfl)
theorem dX1_drifts_12 : decode cX1_drifts 12 = .ok (.iadd, 1) := dk_96 (dk_at dksX1_drifts_0 12 rfl rfl)
theorem dX1_drifts_13 : decode cX1_drifts 13 = .ok (.invokevirtual 82, 3) := dk_182 0 82 (dk_at dksX1_drifts_0 13 rfl rfl)
theorem dX1_drifts_16 : decode cX1_drifts 16 = .ok (.ifCond .eq 22, 3) := dk_153 0 22 (dk_at dksX1_drifts_0 16 rfl rfl)
theorem dX1_drifts_19 : decode cX1_drifts 19 = .ok (.aload_n 0, 1) := dk_42 (dk_at dksX1_drifts_0 19 rfl rfl)
theorem dX1_drifts_20 : decode cX1_drifts 20 = .ok (.aload_n 1, 1) := dk_43 (dk_at dksX1_drifts_0 20 rfl rfl)
theorem dX1_drifts_21 : decode cX1_drifts 21 = .ok (.getfield 76, 3) := dk_180 0 76 (dk_at dksX1_drifts_0 21 rfl rfl)
theorem dX1_drifts_24 : decode cX1_drifts 24 = .ok (.iload_n 2, 1) := dk_28 (dk_at dksX1_drifts_1 0 rfl rfl)
theorem dX1_drifts_25 : decode cX1_drifts 25 = .ok (.iadd, 1) := dk_96 (dk_at dksX1_drifts_1 1 rfl rfl)
theorem dX1_drifts_26 : decode cX1_drifts 26 = .ok (.aload_n 1, 1) := dk_43 (dk_at dksX1_drifts_1 2 rfl rfl)
theorem dX1_drifts_27 : decode cX1_drifts 27 = .ok (.getfield 79, 3) := dk_180 0 79 (dk_at dksX1_drifts_1 3 rfl rfl)
theorem dX1_drifts_30 : decode cX1_drifts 30 = .ok (.iload_n 3, 1) := dk_29 (dk_at dksX1_drifts_1 6 rfl rfl)
theorem dX1_drifts_31 : decode cX1_drifts 31 = .ok (.iadd, 1) := dk_96 (dk_at dksX1_drifts_1 7 rfl rfl)
theorem dX1_drifts_32 : decode cX1_drifts 32 = .ok (.invokevirtual 86, 3) := dk_182 0 86 (dk_at dksX1_drifts_1 8 rfl rfl)
theorem dX1_drifts_35 : decode cX1_drifts 35 = .ok (.ifnull 5, 3) := dk_198 0 5 (dk_at dksX1_drifts_1 11 rfl rfl)
theorem dX1_drifts_38 : decode cX1_drifts 38 = .ok (.iconst 0, 1) := dk_3 (dk_at dksX1_drifts_1 14 rfl rfl)
theorem dX1_drifts_39 : decode cX1_drifts 39 = .ok (.ireturn, 1) := dk_172 (dk_at dksX1_drifts_1 15 rfl rfl)
theorem dX1_drifts_40 : decode cX1_drifts 40 = .ok (.aload_n 1, 1) := dk_43 (dk_at dksX1_drifts_1 16 rfl rfl)
theorem dX1_drifts_41 : decode cX1_drifts 41 = .ok (.dup, 1) := dk_89 (dk_at dksX1_drifts_1 17 rfl rfl)
theorem dX1_drifts_42 : decode cX1_drifts 42 = .ok (.getfield 76, 3) := dk_180 0 76 (dk_at dksX1_drifts_1 18 rfl rfl)
theorem dX1_drifts_45 : decode cX1_drifts 45 = .ok (.iload_n 2, 1) := dk_28 (dk_at dksX1_drifts_1 21 rfl rfl)
theorem dX1_drifts_46 : decode cX1_drifts 46 = .ok (.iadd, 1) := dk_96 (dk_at dksX1_drifts_1 22 rfl rfl)
theorem dX1_drifts_47 : decode cX1_drifts 47 = .ok (.putfield 76, 3) := dk_181 0 76 (dk_at dksX1_drifts_2 0 rfl rfl)
theorem dX1_drifts_50 : decode cX1_drifts 50 = .ok (.aload_n 1, 1) := dk_43 (dk_at dksX1_drifts_2 3 rfl rfl)
theorem dX1_drifts_51 : decode cX1_drifts 51 = .ok (.dup, 1) := dk_89 (dk_at dksX1_drifts_2 4 rfl rfl)
theorem dX1_drifts_52 : decode cX1_drifts 52 = .ok (.getfield 79, 3) := dk_180 0 79 (dk_at dksX1_drifts_2 5 rfl rfl)
theorem dX1_drifts_55 : decode cX1_drifts 55 = .ok (.iload_n 3, 1) := dk_29 (dk_at dksX1_drifts_2 8 rfl rfl)
theorem dX1_drifts_56 : decode cX1_drifts 56 = .ok (.iadd, 1) := dk_96 (dk_at dksX1_drifts_2 9 rfl rfl)
theorem dX1_drifts_57 : decode cX1_drifts 57 = .ok (.putfield 79, 3) := dk_181 0 79 (dk_at dksX1_drifts_2 10 rfl rfl)
theorem dX1_drifts_60 : decode cX1_drifts 60 = .ok (.iconst 1, 1) := dk_4 (dk_at dksX1_drifts_2 13 rfl rfl)
theorem dX1_drifts_61 : decode cX1_drifts 61 = .ok (.ireturn, 1) := dk_172 (dk_at dksX1_drifts_2 14 rfl rfl)
abbrev cX1_turn : ByteArray := prog_20_method_19_code
def yX1_turn : MethodName := ⟨RX1, "turn", "(ILTubBites$Rule;)Z"⟩
def dkwX1_turn_2 : List UInt8 := [112, 182, 0, 223, 153, 0, 7, 4, 167, 0, 4, 3, 172]
abbrev dktX1_turn_2 : List UInt8 := dkwX1_turn_2 ++ []
def dkwX1_turn_1 : List UInt8 := [156, 0, 8, 42, 45, 182, 0, 219, 21, 4, 155, 0, 25, 42, 27, 21, 4, 16, 10, 108, 21, 4, 16, 10]
abbrev dktX1_turn_1 : List UInt8 := dkwX1_turn_1 ++ dktX1_turn_2
def dkwX1_turn_0 : List UInt8 := [42, 180, 0, 31, 27, 182, 0, 55, 192, 0, 64, 78, 42, 44, 45, 182, 0, 215, 54, 4, 21, 4]
abbrev dktX1_turn_0 : List UInt8 := dkwX1_turn_0 ++ dktX1_turn_1
theorem dksX1_turn_0 : cX1_turn.data.toList.drop 0 = dktX1_turn_0 := by decide +kernel
theorem dksX1_turn_1 : cX1_turn.data.toList.drop 22 = dktX1_turn_1 := dk_seg dksX1_turn_0 22 rfl rfl
theorem dksX1_turn_2 : cX1_turn.data.toList.drop 46 = dktX1_turn_2 := dk_seg dksX1_turn_1 24 rfl rfl
theorem dX1_turn_0 : decode cX1_turn 0 = .ok (.aload_n 0, 1) := dk_42 (dk_at dksX1_turn_0 0 rfl rfl)
theorem dX1_turn_1 : decode cX1_turn 1 = .ok (.getfield 31, 3) := dk_180 0 31 (dk_at dksX1_turn_0 1 rfl rfl)
theorem dX1_turn_4 : decode cX1_turn 4 = .ok (.iload_n 1, 1) := dk_27 (dk_at dksX1_turn_0 4 rfl rfl)
theorem dX1_turn_5 : decode cX1_turn 5 = .ok (.invokevirtual 55, 3) := dk_182 0 55 (dk_at dksX1_turn_0 5 rfl rfl)
theorem dX1_turn_8 : decode cX1_turn 8 = .ok (.checkcast 64, 3) := dk_192 0 64 (dk_at dksX1_turn_0 8 rfl rfl)
theorem dX1_turn_11 : decode cX1_turn 11 = .ok (.astore_n 3, 1) := dk_78 (dk_at dksX1_turn_0 11 rfl rfl)
theorem dX1_turn_12 : decode cX1_turn 12 = .ok (.aload_n 0, 1) := dk_42 (dk_at dksX1_turn_0 12 rfl rfl)
theorem dX1_turn_13 : decode cX1_turn 13 = .ok (.aload_n 2, 1) := dk_44 (dk_at dksX1_turn_0 13 rfl rfl)
theorem dX1_turn_14 : decode cX1_turn 14 = .ok (.aload_n 3, 1) := dk_45 (dk_at dksX1_turn_0 14 rfl rfl)
theorem dX1_turn_15 : decode cX1_turn 15 = .ok (.invokevirtual 215, 3) := dk_182 0 215 (dk_at dksX1_turn_0 15 rfl rfl)
theorem dX1_turn_18 : decode cX1_turn 18 = .ok (.istore 4, 2) := dk_54 4 (dk_at dksX1_turn_0 18 rfl rfl)
theorem dX1_turn_20 : decode cX1_turn 20 = .ok (.iload 4, 2) := dk_21 4 (dk_at dksX1_turn_0 20 rfl rfl)
theorem dX1_turn_22 : decode cX1_turn 22 = .ok (.ifCond .ge 8, 3) := dk_156 0 8 (dk_at dksX1_turn_1 0 rfl rfl)
theorem dX1_turn_25 : decode cX1_turn 25 = .ok (.aload_n 0, 1) := dk_42 (dk_at dksX1_turn_1 3 rfl rfl)
theorem dX1_turn_26 : decode cX1_turn 26 = .ok (.aload_n 3, 1) := dk_45 (dk_at dksX1_turn_1 4 rfl rfl)
theorem dX1_turn_27 : decode cX1_turn 27 = .ok (.invokevirtual 219, 3) := dk_182 0 219 (dk_at dksX1_turn_1 5 rfl rfl)
theorem dX1_turn_30 : decode cX1_turn 30 = .ok (.iload 4, 2) := dk_21 4 (dk_at dksX1_turn_1 8 rfl rfl)
theorem dX1_turn_32 : decode cX1_turn 32 = .ok (.ifCond .lt 25, 3) := dk_155 0 25 (dk_at dksX1_turn_1 10 rfl rfl)
theorem dX1_turn_35 : decode cX1_turn 35 = .ok (.aload_n 0, 1) := dk_42 (dk_at dksX1_turn_1 13 rfl rfl)
theorem dX1_turn_36 : decode cX1_turn 36 = .ok (.iload_n 1, 1) := dk_27 (dk_at dksX1_turn_1 14 rfl rfl)
theorem dX1_turn_37 : decode cX1_turn 37 = .ok (.iload 4, 2) := dk_21 4 (dk_at dksX1_turn_1 15 rfl rfl)
theorem dX1_turn_39 : decode cX1_turn 39 = .ok (.bipush 10, 2) := dk_16 10 (dk_at dksX1_turn_1 17 rfl rfl)
theorem dX1_turn_41 : decode cX1_turn 41 = .ok (.idiv, 1) := dk_108 (dk_at dksX1_turn_1 19 rfl rfl)
theorem dX1_turn_42 : decode cX1_turn 42 = .ok (.iload 4, 2) := dk_21 4 (dk_at dksX1_turn_1 20 rfl rfl)
theorem dX1_turn_44 : decode cX1_turn 44 = .ok (.bipush 10, 2) := dk_16 10 (dk_at dksX1_turn_1 22 rfl rfl)
theorem dX1_turn_46 : decode cX1_turn 46 = .ok (.irem, 1) := dk_112 (dk_at dksX1_turn_2 0 rfl rfl)
theorem dX1_turn_47 : decode cX1_turn 47 = .ok (.invokevirtual 223, 3) := dk_182 0 223 (dk_at dksX1_turn_2 1 rfl rfl)
theorem dX1_turn_50 : decode cX1_turn 50 = .ok (.ifCond .eq 7, 3) := dk_153 0 7 (dk_at dksX1_turn_2 4 rfl rfl)
theorem dX1_turn_53 : decode cX1_turn 53 = .ok (.iconst 1, 1) := dk_4 (dk_at dksX1_turn_2 7 rfl rfl)
theorem dX1_turn_54 : decode cX1_turn 54 = .ok (.goto 4, 3) := dk_167 0 4 (dk_at dksX1_turn_2 8 rfl rfl)
theorem dX1_turn_57 : decode cX1_turn 57 = .ok (.iconst 0, 1) := dk_3 (dk_at dksX1_turn_2 11 rfl rfl)
theorem dX1_turn_58 : decode cX1_turn 58 = .ok (.ireturn, 1) := dk_172 (dk_at dksX1_turn_2 12 rfl rfl)
abbrev cX1_bring : ByteArray := prog_20_method_25_code
def yX1_bring : MethodName := ⟨RX1, "bring", "([I)V"⟩
def dkwX1_bring_0 : List UInt8 := [42, 43, 3, 182, 0, 239, 177]
abbrev dktX1_bring_0 : List UInt8 := dkwX1_bring_0 ++ []
theorem dksX1_bring_0 : cX1_bring.data.toList.drop 0 = dktX1_bring_0 := by decide +kernel
theorem dX1_bring_0 : decode cX1_bring 0 = .ok (.aload_n 0, 1) := dk_42 (dk_at dksX1_bring_0 0 rfl rfl)
theorem dX1_bring_1 : decode cX1_bring 1 = .ok (.aload_n 1, 1) := dk_43 (dk_at dksX1_bring_0 1 rfl rfl)
theorem dX1_bring_2 : decode cX1_bring 2 = .ok (.iconst 0, 1) := dk_3 (dk_at dksX1_bring_0 2 rfl rfl)
theorem dX1_bring_3 : decode cX1_bring 3 = .ok (.invokevirtual 239, 3) := dk_182 0 239 (dk_at dksX1_bring_0 3 rfl rfl)
theorem dX1_bring_6 : decode cX1_bring 6 = .ok (.return_, 1) := dk_177 (dk_at dksX1_bring_0 6 rfl rfl)
abbrev cX1_bringAt : ByteArray := prog_20_method_26_code
def yX1_bringAt : MethodName := ⟨RX1, "bringAt", "([II)V"⟩
def dkwX1_bringAt_8 : List UInt8 := [25, 4, 180, 0, 203, 3, 16, 15, 184, 0, 233, 132, 3, 1, 167, 255, 163, 177]
abbrev dktX1_bringAt_8 : List UInt8 := dkwX1_bringAt_8 ++ []
def dkwX1_bringAt_7 : List UInt8 := [43, 28, 16, 53, 96, 6, 29, 104, 96, 46, 181, 0, 194, 43, 28, 16, 63, 96, 16, 15, 29, 104, 96]
abbrev dktX1_bringAt_7 : List UInt8 := dkwX1_bringAt_7 ++ dktX1_bringAt_8
def dkwX1_bringAt_6 : List UInt8 := [29, 104, 96, 46, 181, 0, 144, 25, 4, 43, 28, 16, 52, 96, 6, 29, 104, 96, 46, 181, 0, 206, 25, 4]
abbrev dktX1_bringAt_6 : List UInt8 := dkwX1_bringAt_6 ++ dktX1_bringAt_7
def dkwX1_bringAt_5 : List UInt8 := [162, 0, 88, 42, 180, 0, 31, 29, 182, 0, 55, 192, 0, 64, 58, 4, 25, 4, 43, 28, 16, 51, 96, 6]
abbrev dktX1_bringAt_5 : List UInt8 := dkwX1_bringAt_5 ++ dktX1_bringAt_6
def dkwX1_bringAt_4 : List UInt8 := [8, 29, 104, 96, 46, 181, 0, 122, 132, 3, 1, 167, 255, 159, 3, 62, 29, 42, 180, 0, 31, 182, 0, 51]
abbrev dktX1_bringAt_4 : List UInt8 := dkwX1_bringAt_4 ++ dktX1_bringAt_5
def dkwX1_bringAt_3 : List UInt8 := [46, 181, 0, 73, 25, 4, 43, 28, 7, 96, 8, 29, 104, 96, 46, 181, 0, 138, 25, 4, 43, 28, 8, 96]
abbrev dktX1_bringAt_3 : List UInt8 := dkwX1_bringAt_3 ++ dktX1_bringAt_4
def dkwX1_bringAt_2 : List UInt8 := [25, 4, 43, 28, 5, 96, 8, 29, 104, 96, 46, 181, 0, 79, 25, 4, 43, 28, 6, 96, 8, 29, 104, 96]
abbrev dktX1_bringAt_2 : List UInt8 := dkwX1_bringAt_2 ++ dktX1_bringAt_3
def dkwX1_bringAt_1 : List UInt8 := [29, 182, 0, 55, 192, 0, 59, 58, 4, 25, 4, 43, 28, 4, 96, 8, 29, 104, 96, 46, 181, 0, 76]
abbrev dktX1_bringAt_1 : List UInt8 := dkwX1_bringAt_1 ++ dktX1_bringAt_2
def dkwX1_bringAt_0 : List UInt8 := [42, 43, 28, 46, 181, 0, 70, 3, 62, 29, 42, 180, 0, 28, 182, 0, 51, 162, 0, 92, 42, 180, 0, 28]
abbrev dktX1_bringAt_0 : List UInt8 := dkwX1_bringAt_0 ++ dktX1_bringAt_1
theorem dksX1_bringAt_0 : cX1_bringAt.data.toList.drop 0 = dktX1_bringAt_0 := by decide +kernel
theorem dksX1_bringAt_1 : cX1_bringAt.data.toList.drop 24 = dktX1_bringAt_1 := dk_seg dksX1_bringAt_0 24 rfl rfl
theorem dksX1_bringAt_2 : cX1_bringAt.data.toList.drop 47 = dktX1_bringAt_2 := dk_seg dksX1_bringAt_1 23 rfl rfl
theorem dksX1_bringAt_3 : cX1_bringAt.data.toList.drop 71 = dktX1_bringAt_3 := dk_seg dksX1_bringAt_2 24 rfl rfl
theorem dksX1_bringAt_4 : cX1_bringAt.data.toList.drop 95 = dktX1_bringAt_4 := dk_seg dksX1_bringAt_3 24 rfl rfl
theorem dksX1_bringAt_5 : cX1_bringAt.data.toList.drop 119 = dktX1_bringAt_5 := dk_seg dksX1_bringAt_4 24 rfl rfl
theorem dksX1_bringAt_6 : cX1_bringAt.data.toList.drop 143 = dktX1_bringAt_6 := dk_seg dksX1_bringAt_5 24 rfl rfl
theorem dksX1_bringAt_7 : cX1_bringAt.data.toList.drop 167 = dktX1_bringAt_7 := dk_seg dksX1_bringAt_6 24 rfl rfl
theorem dksX1_bringAt_8 : cX1_bringAt.data.toList.drop 190 = dktX1_bringAt_8 := dk_seg dksX1_bringAt_7 23 rfl rfl
theorem dX1_bringAt_0 : decode cX1_bringAt 0 = .ok (.aload_n 0, 1) := dk_42 (dk_at dksX1_bringAt_0 0 rfl rfl)
theorem dX1_bringAt_1 : decode cX1_bringAt 1 = .ok (.aload_n 1, 1) := dk_43 (dk_at dksX1_bringAt_0 1 rfl rfl)
theorem dX1_bringAt_2 : decode cX1_bringAt 2 = .ok (.iload_n 2, 1) := dk_28 (dk_at dksX1_bringAt_0 2 rfl rfl)
theorem dX1_bringAt_3 : decode cX1_bringAt 3 = .ok (.iaload, 1) := dk_46 (dk_at dksX1_bringAt_0 3 rfl rfl)
theorem dX1_bringAt_4 : decode cX1_bringAt 4 = .ok (.putfield 70, 3) := dk_181 0 70 (dk_at dksX1_bringAt_0 4 rfl rfl)
theorem dX1_bringAt_7 : decode cX1_bringAt 7 = .ok (.iconst 0, 1) := dk_3 (dk_at dksX1_bringAt_0 7 rfl rfl)
theorem dX1_bringAt_8 : decode cX1_bringAt 8 = .ok (.istore_n 3, 1) := dk_62 (dk_at dksX1_bringAt_0 8 rfl rfl)
theorem dX1_bringAt_9 : decode cX1_bringAt 9 = .ok (.iload_n 3, 1) := dk_29 (dk_at dksX1_bringAt_0 9 rfl rfl)
theorem dX1_bringAt_10 : decode cX1_bringAt 10 = .ok (.aload_n 0, 1) := dk_42 (dk_at dksX1_bringAt_0 10 rfl rfl)
theorem dX1_bringAt_11 : decode cX1_bringAt 11 = .ok (.getfield 28, 3) := dk_180 0 28 (dk_at dksX1_bringAt_0 11 rfl rfl)
theorem dX1_bringAt_14 : decode cX1_bringAt 14 = .ok (.invokevirtual 51, 3) := dk_182 0 51 (dk_at dksX1_bringAt_0 14 rfl rfl)
theorem dX1_bringAt_17 : decode cX1_bringAt 17 = .ok (.if_icmp .ge 92, 3) := dk_162 0 92 (dk_at dksX1_bringAt_0 17 rfl rfl)
theorem dX1_bringAt_20 : decode cX1_bringAt 20 = .ok (.aload_n 0, 1) := dk_42 (dk_at dksX1_bringAt_0 20 rfl rfl)
theorem dX1_bringAt_21 : decode cX1_bringAt 21 = .ok (.getfield 28, 3) := dk_180 0 28 (dk_at dksX1_bringAt_0 21 rfl rfl)
theorem dX1_bringAt_24 : decode cX1_bringAt 24 = .ok (.iload_n 3, 1) := dk_29 (dk_at dksX1_bringAt_1 0 rfl rfl)
theorem dX1_bringAt_25 : decode cX1_bringAt 25 = .ok (.invokevirtual 55, 3) := dk_182 0 55 (dk_at dksX1_bringAt_1 1 rfl rfl)
theorem dX1_bringAt_28 : decode cX1_bringAt 28 = .ok (.checkcast 59, 3) := dk_192 0 59 (dk_at dksX1_bringAt_1 4 rfl rfl)
theorem dX1_bringAt_31 : decode cX1_bringAt 31 = .ok (.astore 4, 2) := dk_58 4 (dk_at dksX1_bringAt_1 7 rfl rfl)
theorem dX1_bringAt_33 : decode cX1_bringAt 33 = .ok (.aload 4, 2) := dk_25 4 (dk_at dksX1_bringAt_1 9 rfl rfl)
theorem dX1_bringAt_35 : decode cX1_bringAt 35 = .ok (.aload_n 1, 1) := dk_43 (dk_at dksX1_bringAt_1 11 rfl rfl)
theorem dX1_bringAt_36 : decode cX1_bringAt 36 = .ok (.iload_n 2, 1) := dk_28 (dk_at dksX1_bringAt_1 12 rfl rfl)
theorem dX1_bringAt_37 : decode cX1_bringAt 37 = .ok (.iconst 1, 1) := dk_4 (dk_at dksX1_bringAt_1 13 rfl rfl)
theorem dX1_bringAt_38 : decode cX1_bringAt 38 = .ok (.iadd, 1) := dk_96 (dk_at dksX1_bringAt_1 14 rfl rfl)
theorem dX1_bringAt_39 : decode cX1_bringAt 39 = .ok (.iconst 5, 1) := dk_8 (dk_at dksX1_bringAt_1 15 rfl rfl)
theorem dX1_bringAt_40 : decode cX1_bringAt 40 = .ok (.iload_n 3, 1) := dk_29 (dk_at dksX1_bringAt_1 16 rfl rfl)
theorem dX1_bringAt_41 : decode cX1_bringAt 41 = .ok (.imul, 1) := dk_104 (dk_at dksX1_bringAt_1 17 rfl rfl)
theorem dX1_bringAt_42 : decode cX1_bringAt 42 = .ok (.iadd, 1) := dk_96 (dk_at dksX1_bringAt_1 18 rfl rfl)
theorem dX1_bringAt_43 : decode cX1_bringAt 43 = .ok (.iaload, 1) := dk_46 (dk_at dksX1_bringAt_1 19 rfl rfl)
theorem dX1_bringAt_44 : decode cX1_bringAt 44 = .ok (.putfield 76, 3) := dk_181 0 76 (dk_at dksX1_bringAt_1 20 rfl rfl)
theorem dX1_bringAt_47 : decode cX1_bringAt 47 = .ok (.aload 4, 2) := dk_25 4 (dk_at dksX1_bringAt_2 0 rfl rfl)
theorem dX1_bringAt_49 : decode cX1_bringAt 49 = .ok (.aload_n 1, 1) := dk_43 (dk_at dksX1_bringAt_2 2 rfl rfl)
theorem dX1_bringAt_50 : decode cX1_bringAt 50 = .ok (.iload_n 2, 1) := dk_28 (dk_at dksX1_bringAt_2 3 rfl rfl)
theorem dX1_bringAt_51 : decode cX1_bringAt 51 = .ok (.iconst 2, 1) := dk_5 (dk_at dksX1_bringAt_2 4 rfl rfl)
theorem dX1_bringAt_52 : decode cX1_bringAt 52 = .ok (.iadd, 1) := dk_96 (dk_at dksX1_bringAt_2 5 rfl rfl)
theorem dX1_bringAt_53 : decode cX1_bringAt 53 = .ok (.iconst 5, 1) := dk_8 (dk_at dksX1_bringAt_2 6 rfl rfl)
theorem dX1_bringAt_54 : decode cX1_bringAt 54 = .ok (.iload_n 3, 1) := dk_29 (dk_at dksX1_bringAt_2 7 rfl rfl)
theorem dX1_bringAt_55 : decode cX1_bringAt 55 = .ok (.imul, 1) := dk_104 (dk_at dksX1_bringAt_2 8 rfl rfl)
theorem dX1_bringAt_56 : decode cX1_bringAt 56 = .ok (.iadd, 1) := dk_96 (dk_at dksX1_bringAt_2 9 rfl rfl)
theorem dX1_bringAt_57 : decode cX1_bringAt 57 = .ok (.iaload, 1) := dk_46 (dk_at dksX1_bringAt_2 10 rfl rfl)
theorem dX1_bringAt_58 : decode cX1_bringAt 58 = .ok (.putfield 79, 3) := dk_181 0 79 (dk_at dksX1_bringAt_2 11 rfl rfl)
theorem dX1_bringAt_61 : decode cX1_bringAt 61 = .ok (.aload 4, 2) := dk_25 4 (dk_at dksX1_bringAt_2 14 rfl rfl)
theorem dX1_bringAt_63 : decode cX1_bringAt 63 = .ok (.aload_n 1, 1) := dk_43 (dk_at dksX1_bringAt_2 16 rfl rfl)
theorem dX1_bringAt_64 : decode cX1_bringAt 64 = .ok (.iload_n 2, 1) := dk_28 (dk_at dksX1_bringAt_2 17 rfl rfl)
theorem dX1_bringAt_65 : decode cX1_bringAt 65 = .ok (.iconst 3, 1) := dk_6 (dk_at dksX1_bringAt_2 18 rfl rfl)
theorem dX1_bringAt_66 : decode cX1_bringAt 66 = .ok (.iadd, 1) := dk_96 (dk_at dksX1_bringAt_2 19 rfl rfl)
theorem dX1_bringAt_67 : decode cX1_bringAt 67 = .ok (.iconst 5, 1) := dk_8 (dk_at dksX1_bringAt_2 20 rfl rfl)
theorem dX1_bringAt_68 : decode cX1_bringAt 68 = .ok (.iload_n 3, 1) := dk_29 (dk_at dksX1_bringAt_2 21 rfl rfl)
theorem dX1_bringAt_69 : decode cX1_bringAt 69 = .ok (.imul, 1) := dk_104 (dk_at dksX1_bringAt_2 22 rfl rfl)
theorem dX1_bringAt_70 : decode cX1_bringAt 70 = .ok (.iadd, 1) := dk_96 (dk_at dksX1_bringAt_2 23 rfl rfl)
theorem dX1_bringAt_71 : decode cX1_bringAt 71 = .ok (.iaload, 1) := dk_46 (dk_at dksX1_bringAt_3 0 rfl rfl)
theorem dX1_bringAt_72 : decode cX1_bringAt 72 = .ok (.putfield 73, 3) := dk_181 0 73 (dk_at dksX1_bringAt_3 1 rfl rfl)
theorem dX1_bringAt_75 : decode cX1_bringAt 75 = .ok (.aload 4, 2) := dk_25 4 (dk_at dksX1_bringAt_3 4 rfl rfl)
theorem dX1_bringAt_77 : decode cX1_bringAt 77 = .ok (.aload_n 1, 1) := dk_43 (dk_at dksX1_bringAt_3 6 rfl rfl)
theorem dX1_bringAt_78 : decode cX1_bringAt 78 = .ok (.iload_n 2, 1) := dk_28 (dk_at dksX1_bringAt_3 7 rfl rfl)
theorem dX1_bringAt_79 : decode cX1_bringAt 79 = .ok (.iconst 4, 1) := dk_7 (dk_at dksX1_bringAt_3 8 rfl rfl)
theorem dX1_bringAt_80 : decode cX1_bringAt 80 = .ok (.iadd, 1) := dk_96 (dk_at dksX1_bringAt_3 9 rfl rfl)
theorem dX1_bringAt_81 : decode cX1_bringAt 81 = .ok (.iconst 5, 1) := dk_8 (dk_at dksX1_bringAt_3 10 rfl rfl)
theorem dX1_bringAt_82 : decode cX1_bringAt 82 = .ok (.iload_n 3, 1) := dk_29 (dk_at dksX1_bringAt_3 11 rfl rfl)
theorem dX1_bringAt_83 : decode cX1_bringAt 83 = .ok (.imul, 1) := dk_104 (dk_at dksX1_bringAt_3 12 rfl rfl)
theorem dX1_bringAt_84 : decode cX1_bringAt 84 = .ok (.iadd, 1) := dk_96 (dk_at dksX1_bringAt_3 13 rfl rfl)
theorem dX1_bringAt_85 : decode cX1_bringAt 85 = .ok (.iaload, 1) := dk_46 (dk_at dksX1_bringAt_3 14 rfl rfl)
theorem dX1_bringAt_86 : decode cX1_bringAt 86 = .ok (.putfield 138, 3) := dk_181 0 138 (dk_at dksX1_bringAt_3 15 rfl rfl)
theorem dX1_bringAt_89 : decode cX1_bringAt 89 = .ok (.aload 4, 2) := dk_25 4 (dk_at dksX1_bringAt_3 18 rfl rfl)
theorem dX1_bringAt_91 : decode cX1_bringAt 91 = .ok (.aload_n 1, 1) := dk_43 (dk_at dksX1_bringAt_3 20 rfl rfl)
theorem dX1_bringAt_92 : decode cX1_bringAt 92 = .ok (.iload_n 2, 1) := dk_28 (dk_at dksX1_bringAt_3 21 rfl rfl)
theorem dX1_bringAt_93 : decode cX1_bringAt 93 = .ok (.iconst 5, 1) := dk_8 (dk_at dksX1_bringAt_3 22 rfl rfl)
theorem dX1_bringAt_94 : decode cX1_bringAt 94 = .ok (.iadd, 1) := dk_96 (dk_at dksX1_bringAt_3 23 rfl rfl)
theorem dX1_bringAt_95 : decode cX1_bringAt 95 = .ok (.iconst 5, 1) := dk_8 (dk_at dksX1_bringAt_4 0 rfl rfl)
theorem dX1_bringAt_96 : decode cX1_bringAt 96 = .ok (.iload_n 3, 1) := dk_29 (dk_at dksX1_bringAt_4 1 rfl rfl)
theorem dX1_bringAt_97 : decode cX1_bringAt 97 = .ok (.imul, 1) := dk_104 (dk_at dksX1_bringAt_4 2 rfl rfl)
theorem dX1_bringAt_98 : decode cX1_bringAt 98 = .ok (.iadd, 1) := dk_96 (dk_at dksX1_bringAt_4 3 rfl rfl)
theorem dX1_bringAt_99 : decode cX1_bringAt 99 = .ok (.iaload, 1) := dk_46 (dk_at dksX1_bringAt_4 4 rfl rfl)
theorem dX1_bringAt_100 : decode cX1_bringAt 100 = .ok (.putfield 122, 3) := dk_181 0 122 (dk_at dksX1_bringAt_4 5 rfl rfl)
theorem dX1_bringAt_103 : decode cX1_bringAt 103 = .ok (.iinc 3 1, 3) := dk_132 3 1 (dk_at dksX1_bringAt_4 8 rfl rfl)
theorem dX1_bringAt_106 : decode cX1_bringAt 106 = .ok (.goto (-97), 3) := dk_167 255 159 (dk_at dksX1_bringAt_4 11 rfl rfl)
theorem dX1_bringAt_109 : decode cX1_bringAt 109 = .ok (.iconst 0, 1) := dk_3 (dk_at dksX1_bringAt_4 14 rfl rfl)
theorem dX1_bringAt_110 : decode cX1_bringAt 110 = .ok (.istore_n 3, 1) := dk_62 (dk_at dksX1_bringAt_4 15 rfl rfl)
theorem dX1_bringAt_111 : decode cX1_bringAt 111 = .ok (.iload_n 3, 1) := dk_29 (dk_at dksX1_bringAt_4 16 rfl rfl)
theorem dX1_bringAt_112 : decode cX1_bringAt 112 = .ok (.aload_n 0, 1) := dk_42 (dk_at dksX1_bringAt_4 17 rfl rfl)
theorem dX1_bringAt_113 : decode cX1_bringAt 113 = .ok (.getfield 31, 3) := dk_180 0 31 (dk_at dksX1_bringAt_4 18 rfl rfl)
theorem dX1_bringAt_116 : decode cX1_bringAt 116 = .ok (.invokevirtual 51, 3) := dk_182 0 51 (dk_at dksX1_bringAt_4 21 rfl rfl)
theorem dX1_bringAt_119 : decode cX1_bringAt 119 = .ok (.if_icmp .ge 88, 3) := dk_162 0 88 (dk_at dksX1_bringAt_5 0 rfl rfl)
theorem dX1_bringAt_122 : decode cX1_bringAt 122 = .ok (.aload_n 0, 1) := dk_42 (dk_at dksX1_bringAt_5 3 rfl rfl)
theorem dX1_bringAt_123 : decode cX1_bringAt 123 = .ok (.getfield 31, 3) := dk_180 0 31 (dk_at dksX1_bringAt_5 4 rfl rfl)
theorem dX1_bringAt_126 : decode cX1_bringAt 126 = .ok (.iload_n 3, 1) := dk_29 (dk_at dksX1_bringAt_5 7 rfl rfl)
theorem dX1_bringAt_127 : decode cX1_bringAt 127 = .ok (.invokevirtual 55, 3) := dk_182 0 55 (dk_at dksX1_bringAt_5 8 rfl rfl)
theorem dX1_bringAt_130 : decode cX1_bringAt 130 = .ok (.checkcast 64, 3) := dk_192 0 64 (dk_at dksX1_bringAt_5 11 rfl rfl)
theorem dX1_bringAt_133 : decode cX1_bringAt 133 = .ok (.astore 4, 2) := dk_58 4 (dk_at dksX1_bringAt_5 14 rfl rfl)
theorem dX1_bringAt_135 : decode cX1_bringAt 135 = .ok (.aload 4, 2) := dk_25 4 (dk_at dksX1_bringAt_5 16 rfl rfl)
theorem dX1_bringAt_137 : decode cX1_bringAt 137 = .ok (.aload_n 1, 1) := dk_43 (dk_at dksX1_bringAt_5 18 rfl rfl)
theorem dX1_bringAt_138 : decode cX1_bringAt 138 = .ok (.iload_n 2, 1) := dk_28 (dk_at dksX1_bringAt_5 19 rfl rfl)
theorem dX1_bringAt_139 : decode cX1_bringAt 139 = .ok (.bipush 51, 2) := dk_16 51 (dk_at dksX1_bringAt_5 20 rfl rfl)
theorem dX1_bringAt_141 : decode cX1_bringAt 141 = .ok (.iadd, 1) := dk_96 (dk_at dksX1_bringAt_5 22 rfl rfl)
theorem dX1_bringAt_142 : decode cX1_bringAt 142 = .ok (.iconst 3, 1) := dk_6 (dk_at dksX1_bringAt_5 23 rfl rfl)
theorem dX1_bringAt_143 : decode cX1_bringAt 143 = .ok (.iload_n 3, 1) := dk_29 (dk_at dksX1_bringAt_6 0 rfl rfl)
theorem dX1_bringAt_144 : decode cX1_bringAt 144 = .ok (.imul, 1) := dk_104 (dk_at dksX1_bringAt_6 1 rfl rfl)
theorem dX1_bringAt_145 : decode cX1_bringAt 145 = .ok (.iadd, 1) := dk_96 (dk_at dksX1_bringAt_6 2 rfl rfl)
theorem dX1_bringAt_146 : decode cX1_bringAt 146 = .ok (.iaload, 1) := dk_46 (dk_at dksX1_bringAt_6 3 rfl rfl)
theorem dX1_bringAt_147 : decode cX1_bringAt 147 = .ok (.putfield 144, 3) := dk_181 0 144 (dk_at dksX1_bringAt_6 4 rfl rfl)
theorem dX1_bringAt_150 : decode cX1_bringAt 150 = .ok (.aload 4, 2) := dk_25 4 (dk_at dksX1_bringAt_6 7 rfl rfl)
theorem dX1_bringAt_152 : decode cX1_bringAt 152 = .ok (.aload_n 1, 1) := dk_43 (dk_at dksX1_bringAt_6 9 rfl rfl)
theorem dX1_bringAt_153 : decode cX1_bringAt 153 = .ok (.iload_n 2, 1) := dk_28 (dk_at dksX1_bringAt_6 10 rfl rfl)
theorem dX1_bringAt_154 : decode cX1_bringAt 154 = .ok (.bipush 52, 2) := dk_16 52 (dk_at dksX1_bringAt_6 11 rfl rfl)
theorem dX1_bringAt_156 : decode cX1_bringAt 156 = .ok (.iadd, 1) := dk_96 (dk_at dksX1_bringAt_6 13 rfl rfl)
theorem dX1_bringAt_157 : decode cX1_bringAt 157 = .ok (.iconst 3, 1) := dk_6 (dk_at dksX1_bringAt_6 14 rfl rfl)
theorem dX1_bringAt_158 : decode cX1_bringAt 158 = .ok (.iload_n 3, 1) := dk_29 (dk_at dksX1_bringAt_6 15 rfl rfl)
theorem dX1_bringAt_159 : decode cX1_bringAt 159 = .ok (.imul, 1) := dk_104 (dk_at dksX1_bringAt_6 16 rfl rfl)
theorem dX1_bringAt_160 : decode cX1_bringAt 160 = .ok (.iadd, 1) := dk_96 (dk_at dksX1_bringAt_6 17 rfl rfl)
theorem dX1_bringAt_161 : decode cX1_bringAt 161 = .ok (.iaload, 1) := dk_46 (dk_at dksX1_bringAt_6 18 rfl rfl)
theorem dX1_bringAt_162 : decode cX1_bringAt 162 = .ok (.putfield 206, 3) := dk_181 0 206 (dk_at dksX1_bringAt_6 19 rfl rfl)
theorem dX1_bringAt_165 : decode cX1_bringAt 165 = .ok (.aload 4, 2) := dk_25 4 (dk_at dksX1_bringAt_6 22 rfl rfl)
theorem dX1_bringAt_167 : decode cX1_bringAt 167 = .ok (.aload_n 1, 1) := dk_43 (dk_at dksX1_bringAt_7 0 rfl rfl)
theorem dX1_bringAt_168 : decode cX1_bringAt 168 = .ok (.iload_n 2, 1) := dk_28 (dk_at dksX1_bringAt_7 1 rfl rfl)
theorem dX1_bringAt_169 : decode cX1_bringAt 169 = .ok (.bipush 53, 2) := dk_16 53 (dk_at dksX1_bringAt_7 2 rfl rfl)
theorem dX1_bringAt_171 : decode cX1_bringAt 171 = .ok (.iadd, 1) := dk_96 (dk_at dksX1_bringAt_7 4 rfl rfl)
theorem dX1_bringAt_172 : decode cX1_bringAt 172 = .ok (.iconst 3, 1) := dk_6 (dk_at dksX1_bringAt_7 5 rfl rfl)
theorem dX1_bringAt_173 : decode cX1_bringAt 173 = .ok (.iload_n 3, 1) := dk_29 (dk_at dksX1_bringAt_7 6 rfl rfl)
theorem dX1_bringAt_174 : decode cX1_bringAt 174 = .ok (.imul, 1) := dk_104 (dk_at dksX1_bringAt_7 7 rfl rfl)
theorem dX1_bringAt_175 : decode cX1_bringAt 175 = .ok (.iadd, 1) := dk_96 (dk_at dksX1_bringAt_7 8 rfl rfl)
theorem dX1_bringAt_176 : decode cX1_bringAt 176 = .ok (.iaload, 1) := dk_46 (dk_at dksX1_bringAt_7 9 rfl rfl)
theorem dX1_bringAt_177 : decode cX1_bringAt 177 = .ok (.putfield 194, 3) := dk_181 0 194 (dk_at dksX1_bringAt_7 10 rfl rfl)
theorem dX1_bringAt_180 : decode cX1_bringAt 180 = .ok (.aload_n 1, 1) := dk_43 (dk_at dksX1_bringAt_7 13 rfl rfl)
theorem dX1_bringAt_181 : decode cX1_bringAt 181 = .ok (.iload_n 2, 1) := dk_28 (dk_at dksX1_bringAt_7 14 rfl rfl)
theorem dX1_bringAt_182 : decode cX1_bringAt 182 = .ok (.bipush 63, 2) := dk_16 63 (dk_at dksX1_bringAt_7 15 rfl rfl)
theorem dX1_bringAt_184 : decode cX1_bringAt 184 = .ok (.iadd, 1) := dk_96 (dk_at dksX1_bringAt_7 17 rfl rfl)
theorem dX1_bringAt_185 : decode cX1_bringAt 185 = .ok (.bipush 15, 2) := dk_16 15 (dk_at dksX1_bringAt_7 18 rfl rfl)
theorem dX1_bringAt_187 : decode cX1_bringAt 187 = .ok (.iload_n 3, 1) := dk_29 (dk_at dksX1_bringAt_7 20 rfl rfl)
theorem dX1_bringAt_188 : decode cX1_bringAt 188 = .ok (.imul, 1) := dk_104 (dk_at dksX1_bringAt_7 21 rfl rfl)
theorem dX1_bringAt_189 : decode cX1_bringAt 189 = .ok (.iadd, 1) := dk_96 (dk_at dksX1_bringAt_7 22 rfl rfl)
theorem dX1_bringAt_190 : decode cX1_bringAt 190 = .ok (.aload 4, 2) := dk_25 4 (dk_at dksX1_bringAt_8 0 rfl rfl)
theorem dX1_bringAt_192 : decode cX1_bringAt 192 = .ok (.getfield 203, 3) := dk_180 0 203 (dk_at dksX1_bringAt_8 2 rfl rfl)
theorem dX1_bringAt_195 : decode cX1_bringAt 195 = .ok (.iconst 0, 1) := dk_3 (dk_at dksX1_bringAt_8 5 rfl rfl)
theorem dX1_bringAt_196 : decode cX1_bringAt 196 = .ok (.bipush 15, 2) := dk_16 15 (dk_at dksX1_bringAt_8 6 rfl rfl)
theorem dX1_bringAt_198 : decode cX1_bringAt 198 = .ok (.invokestatic 233, 3) := dk_184 0 233 (dk_at dksX1_bringAt_8 8 rfl rfl)
theorem dX1_bringAt_201 : decode cX1_bringAt 201 = .ok (.iinc 3 1, 3) := dk_132 3 1 (dk_at dksX1_bringAt_8 11 rfl rfl)
theorem dX1_bringAt_204 : decode cX1_bringAt 204 = .ok (.goto (-93), 3) := dk_167 255 163 (dk_at dksX1_bringAt_8 14 rfl rfl)
theorem dX1_bringAt_207 : decode cX1_bringAt 207 = .ok (.return_, 1) := dk_177 (dk_at dksX1_bringAt_8 17 rfl rfl)
abbrev cX1_left : ByteArray := prog_20_method_22_code
def yX1_left : MethodName := ⟨RX1, "left", "()I"⟩
def dkwX1_left_2 : List UInt8 := [172]
abbrev dktX1_left_2 : List UInt8 := dkwX1_left_2 ++ []
def dkwX1_left_1 : List UInt8 := [192, 0, 59, 180, 0, 73, 2, 160, 0, 7, 4, 167, 0, 4, 3, 96, 60, 132, 2, 1, 167, 255, 216, 27]
abbrev dktX1_left_1 : List UInt8 := dkwX1_left_1 ++ dktX1_left_2
def dkwX1_left_0 : List UInt8 := [3, 60, 3, 61, 28, 42, 180, 0, 28, 182, 0, 51, 162, 0, 35, 27, 42, 180, 0, 28, 28, 182, 0, 55]
abbrev dktX1_left_0 : List UInt8 := dkwX1_left_0 ++ dktX1_left_1
theorem dksX1_left_0 : cX1_left.data.toList.drop 0 = dktX1_left_0 := by decide +kernel
theorem dksX1_left_1 : cX1_left.data.toList.drop 24 = dktX1_left_1 := dk_seg dksX1_left_0 24 rfl rfl
theorem dksX1_left_2 : cX1_left.data.toList.drop 48 = dktX1_left_2 := dk_seg dksX1_left_1 24 rfl rfl
theorem dX1_left_0 : decode cX1_left 0 = .ok (.iconst 0, 1) := dk_3 (dk_at dksX1_left_0 0 rfl rfl)
theorem dX1_left_1 : decode cX1_left 1 = .ok (.istore_n 1, 1) := dk_60 (dk_at dksX1_left_0 1 rfl rfl)
theorem dX1_left_2 : decode cX1_left 2 = .ok (.iconst 0, 1) := dk_3 (dk_at dksX1_left_0 2 rfl rfl)
theorem dX1_left_3 : decode cX1_left 3 = .ok (.istore_n 2, 1) := dk_61 (dk_at dksX1_left_0 3 rfl rfl)
theorem dX1_left_4 : decode cX1_left 4 = .ok (.iload_n 2, 1) := dk_28 (dk_at dksX1_left_0 4 rfl rfl)
theorem dX1_left_5 : decode cX1_left 5 = .ok (.aload_n 0, 1) := dk_42 (dk_at dksX1_left_0 5 rfl rfl)
theorem dX1_left_6 : decode cX1_left 6 = .ok (.getfield 28, 3) := dk_180 0 28 (dk_at dksX1_left_0 6 rfl rfl)
theorem dX1_left_9 : decode cX1_left 9 = .ok (.invokevirtual 51, 3) := dk_182 0 51 (dk_at dksX1_left_0 9 rfl rfl)
theorem dX1_left_12 : decode cX1_left 12 = .ok (.if_icmp .ge 35, 3) := dk_162 0 35 (dk_at dksX1_left_0 12 rfl rfl)
theorem dX1_left_15 : decode cX1_left 15 = .ok (.iload_n 1, 1) := dk_27 (dk_at dksX1_left_0 15 rfl rfl)
theorem dX1_left_16 : decode cX1_left 16 = .ok (.aload_n 0, 1) := dk_42 (dk_at dksX1_left_0 16 rfl rfl)
theorem dX1_left_17 : decode cX1_left 17 = .ok (.getfield 28, 3) := dk_180 0 28 (dk_at dksX1_left_0 17 rfl rfl)
theorem dX1_left_20 : decode cX1_left 20 = .ok (.iload_n 2, 1) := dk_28 (dk_at dksX1_left_0 20 rfl rfl)
theorem dX1_left_21 : decode cX1_left 21 = .ok (.invokevirtual 55, 3) := dk_182 0 55 (dk_at dksX1_left_0 21 rfl rfl)
theorem dX1_left_24 : decode cX1_left 24 = .ok (.checkcast 59, 3) := dk_192 0 59 (dk_at dksX1_left_1 0 rfl rfl)
theorem dX1_left_27 : decode cX1_left 27 = .ok (.getfield 73, 3) := dk_180 0 73 (dk_at dksX1_left_1 3 rfl rfl)
theorem dX1_left_30 : decode cX1_left 30 = .ok (.iconst (-1), 1) := dk_2 (dk_at dksX1_left_1 6 rfl rfl)
theorem dX1_left_31 : decode cX1_left 31 = .ok (.if_icmp .ne 7, 3) := dk_160 0 7 (dk_at dksX1_left_1 7 rfl rfl)
theorem dX1_left_34 : decode cX1_left 34 = .ok (.iconst 1, 1) := dk_4 (dk_at dksX1_left_1 10 rfl rfl)
theorem dX1_left_35 : decode cX1_left 35 = .ok (.goto 4, 3) := dk_167 0 4 (dk_at dksX1_left_1 11 rfl rfl)
theorem dX1_left_38 : decode cX1_left 38 = .ok (.iconst 0, 1) := dk_3 (dk_at dksX1_left_1 14 rfl rfl)
theorem dX1_left_39 : decode cX1_left 39 = .ok (.iadd, 1) := dk_96 (dk_at dksX1_left_1 15 rfl rfl)
theorem dX1_left_40 : decode cX1_left 40 = .ok (.istore_n 1, 1) := dk_60 (dk_at dksX1_left_1 16 rfl rfl)
theorem dX1_left_41 : decode cX1_left 41 = .ok (.iinc 2 1, 3) := dk_132 2 1 (dk_at dksX1_left_1 17 rfl rfl)
theorem dX1_left_44 : decode cX1_left 44 = .ok (.goto (-40), 3) := dk_167 255 216 (dk_at dksX1_left_1 20 rfl rfl)
theorem dX1_left_47 : decode cX1_left 47 = .ok (.iload_n 1, 1) := dk_27 (dk_at dksX1_left_1 23 rfl rfl)
theorem dX1_left_48 : decode cX1_left 48 = .ok (.ireturn, 1) := dk_172 (dk_at dksX1_left_2 0 rfl rfl)
theorem q146 : (Jvm.Cond.initialized "TubBites$Water") ∈ lw_all := lw_g (lw_at lw_m1 2 rfl) rfl
theorem q185 : (Jvm.Cond.instantiable "TubBites$Water" (14 : Nat)) ∈ lw_all := lw_g (lw_at lw_m1 41 rfl) rfl
theorem q187 : (Jvm.Cond.instanceMethod ({ cls := "TubBites$Water", name := "<init>", desc := "()V" } : Jvm.MethodName)) ∈ lw_all := lw_g (lw_at lw_m1 43 rfl) rfl
theorem q188 : (Jvm.Cond.code ({ cls := "TubBites$Water", name := "<init>", desc := "()V" } : Jvm.MethodName) prog_20_method_1_code (1 : Nat) (Option.none : Option Jvm.ClassFile.FieldType)) ∈ lw_all := lw_g (lw_at lw_m1 44 rfl) rfl
theorem q189 : (Jvm.Cond.methodLink "TubBites$Water" (3 : Nat) ({ cls := "java/lang/Object", name := "<init>", desc := "()V" } : Jvm.MethodName)) ∈ lw_all := lw_g (lw_at lw_m1 45 rfl) rfl
theorem q190 : (Jvm.Cond.classLink "TubBites$Water" (15 : Nat) "TubBites$Part") ∈ lw_all := lw_g (lw_at lw_m1 46 rfl) rfl
theorem q192 : (Jvm.Cond.classLink "TubBites$Water" (21 : Nat) "java/util/ArrayList") ∈ lw_all := lw_g (lw_at lw_m1 48 rfl) rfl
theorem q194 : (Jvm.Cond.methodLink "TubBites$Water" (23 : Nat) ({ cls := "java/util/ArrayList", name := "<init>", desc := "()V" } : Jvm.MethodName)) ∈ lw_all := lw_g (lw_at lw_m1 50 rfl) rfl
theorem q218 : (Jvm.Cond.classLink "TubBites$Water" (34 : Nat) "TubBites$Told") ∈ lw_all := lw_g (lw_at lw_m1 74 rfl) rfl
theorem q220 : (Jvm.Cond.methodLinkNest "TubBites$Water" (36 : Nat) ({ cls := "TubBites$Told", name := "<init>", desc := "()V" } : Jvm.MethodName) "TubBites") ∈ lw_tbl := lw_at lw_m1 76 rfl
theorem q226 : (Jvm.Cond.fieldLinkNest "TubBites$Water" (118 : Nat) "TubBites$Told" "its" "[I" "TubBites") ∈ lw_tbl := lw_at lw_m1 82 rfl
theorem q231 : (Jvm.Cond.fieldLink "TubBites$Water" (41 : Nat) "TubBites$Water" "across" "I") ∈ lw_all := lw_g (lw_at lw_m1 87 rfl) rfl
theorem q234 : (Jvm.Cond.fieldLink "TubBites$Water" (48 : Nat) "TubBites$Water" "up" "I") ∈ lw_all := lw_g (lw_at lw_m1 90 rfl) rfl
theorem q237 : (Jvm.Cond.fieldLink "TubBites$Water" (67 : Nat) "TubBites$Water" "draw" "I") ∈ lw_all := lw_g (lw_at lw_m1 93 rfl) rfl
theorem q239 : (Jvm.Cond.fieldLink "TubBites$Water" (70 : Nat) "TubBites$Water" "seed" "I") ∈ lw_all := lw_g (lw_at lw_m1 95 rfl) rfl
theorem q243 : (Jvm.Cond.fieldLink "TubBites$Water" (9 : Nat) "TubBites$Water" "bite" "I") ∈ lw_all := lw_g (lw_at lw_m1 99 rfl) rfl
theorem q249 : (Jvm.Cond.fieldLink "TubBites$Water" (17 : Nat) "TubBites$Water" "odds" "[LTubBites$Part;") ∈ lw_all := lw_g (lw_at lw_m1 105 rfl) rfl
theorem q251 : (Jvm.Cond.fieldLink "TubBites$Water" (24 : Nat) "TubBites$Water" "rules" "Ljava/util/ArrayList;") ∈ lw_all := lw_g (lw_at lw_m1 107 rfl) rfl
theorem q254 : (Jvm.Cond.fieldLink "TubBites$Water" (28 : Nat) "TubBites$Water" "apples" "Ljava/util/ArrayList;") ∈ lw_all := lw_g (lw_at lw_m1 110 rfl) rfl
theorem q257 : (Jvm.Cond.fieldLink "TubBites$Water" (31 : Nat) "TubBites$Water" "bobbers" "Ljava/util/ArrayList;") ∈ lw_all := lw_g (lw_at lw_m1 113 rfl) rfl
theorem q260 : (Jvm.Cond.fieldLink "TubBites$Water" (37 : Nat) "TubBites$Water" "told" "LTubBites$Told;") ∈ lw_all := lw_g (lw_at lw_m1 116 rfl) rfl
theorem q261 : (Jvm.Cond.lays "TubBites$Water" "TubBites$Water" "across" "I") ∈ lw_all := lw_g (lw_at lw_m1 117 rfl) rfl
theorem q262 : (Jvm.Cond.soleField "TubBites$Water" "across") ∈ lw_all := lw_g (lw_at lw_m1 118 rfl) rfl
theorem q263 : (Jvm.Cond.lays "TubBites$Water" "TubBites$Water" "up" "I") ∈ lw_all := lw_g (lw_at lw_m1 119 rfl) rfl
theorem q264 : (Jvm.Cond.soleField "TubBites$Water" "up") ∈ lw_all := lw_g (lw_at lw_m1 120 rfl) rfl
theorem q265 : (Jvm.Cond.lays "TubBites$Water" "TubBites$Water" "draw" "I") ∈ lw_all := lw_g (lw_at lw_m1 121 rfl) rfl
theorem q266 : (Jvm.Cond.soleField "TubBites$Water" "draw") ∈ lw_all := lw_g (lw_at lw_m1 122 rfl) rfl
theorem q267 : (Jvm.Cond.lays "TubBites$Water" "TubBites$Water" "seed" "I") ∈ lw_all := lw_g (lw_at lw_m1 123 rfl) rfl
theorem q268 : (Jvm.Cond.soleField "TubBites$Water" "seed") ∈ lw_all := lw_g (lw_at lw_m1 124 rfl) rfl
theorem q269 : (Jvm.Cond.lays "TubBites$Water" "TubBites$Water" "units" "I") ∈ lw_all := lw_g (lw_at lw_m1 125 rfl) rfl
theorem q270 : (Jvm.Cond.soleField "TubBites$Water" "units") ∈ lw_all := lw_g (lw_at lw_m1 126 rfl) rfl
theorem q271 : (Jvm.Cond.lays "TubBites$Water" "TubBites$Water" "bite" "I") ∈ lw_all := lw_g (lw_at lw_m1 127 rfl) rfl
theorem q272 : (Jvm.Cond.soleField "TubBites$Water" "bite") ∈ lw_all := lw_g (lw_at lw_m1 128 rfl) rfl
theorem q273 : (Jvm.Cond.lays "TubBites$Water" "TubBites$Water" "isTold" "Z") ∈ lw_all := lw_g (lw_at lw_m1 129 rfl) rfl
theorem q274 : (Jvm.Cond.soleField "TubBites$Water" "isTold") ∈ lw_all := lw_g (lw_at lw_m1 130 rfl) rfl
theorem q275 : (Jvm.Cond.lays "TubBites$Water" "TubBites$Water" "isDraw" "Z") ∈ lw_all := lw_g (lw_at lw_m1 131 rfl) rfl
theorem q276 : (Jvm.Cond.soleField "TubBites$Water" "isDraw") ∈ lw_all := lw_g (lw_at lw_m1 132 rfl) rfl
theorem q277 : (Jvm.Cond.lays "TubBites$Water" "TubBites$Water" "isBite" "Z") ∈ lw_all := lw_g (lw_at lw_m1 133 rfl) rfl
theorem q278 : (Jvm.Cond.soleField "TubBites$Water" "isBite") ∈ lw_all := lw_g (lw_at lw_m1 134 rfl) rfl
theorem q279 : (Jvm.Cond.laysFinal "TubBites$Water" "TubBites$Water" "odds" "[LTubBites$Part;") ∈ lw_all := lw_g (lw_at lw_m1 135 rfl) rfl
theorem q280 : (Jvm.Cond.soleField "TubBites$Water" "odds") ∈ lw_all := lw_g (lw_at lw_m1 136 rfl) rfl
theorem q281 : (Jvm.Cond.laysFinal "TubBites$Water" "TubBites$Water" "rules" "Ljava/util/ArrayList;") ∈ lw_all := lw_g (lw_at lw_m1 137 rfl) rfl
theorem q282 : (Jvm.Cond.soleField "TubBites$Water" "rules") ∈ lw_all := lw_g (lw_at lw_m1 138 rfl) rfl
theorem q283 : (Jvm.Cond.laysFinal "TubBites$Water" "TubBites$Water" "apples" "Ljava/util/ArrayList;") ∈ lw_all := lw_g (lw_at lw_m1 139 rfl) rfl
theorem q284 : (Jvm.Cond.soleField "TubBites$Water" "apples") ∈ lw_all := lw_g (lw_at lw_m1 140 rfl) rfl
theorem q285 : (Jvm.Cond.laysFinal "TubBites$Water" "TubBites$Water" "bobbers" "Ljava/util/ArrayList;") ∈ lw_all := lw_g (lw_at lw_m1 141 rfl) rfl
theorem q286 : (Jvm.Cond.soleField "TubBites$Water" "bobbers") ∈ lw_all := lw_g (lw_at lw_m1 142 rfl) rfl
theorem q287 : (Jvm.Cond.laysFinal "TubBites$Water" "TubBites$Water" "told" "LTubBites$Told;") ∈ lw_all := lw_g (lw_at lw_m1 143 rfl) rfl
theorem q288 : (Jvm.Cond.soleField "TubBites$Water" "told") ∈ lw_all := lw_g (lw_at lw_m1 144 rfl) rfl
theorem q289 : (Jvm.Cond.superclass "TubBites$Water" "java/lang/Object") ∈ lw_all := lw_g (lw_at lw_m1 145 rfl) rfl
theorem q740 : (Jvm.Cond.fieldLinkNest "TubBites$Water" (180 : Nat) "TubBites$Rule" "part" "LTubBites$Part;" "TubBites") ∈ lw_tbl := lw_at lw_m3 116 rfl
theorem q795 : (Jvm.Cond.selects "TubBites$Water" ({ cls := "java/lang/Object", name := "getClass", desc := "()Ljava/lang/Class;" } : Jvm.MethodName) ({ cls := "java/lang/Object", name := "getClass", desc := "()Ljava/lang/Class;" } : Jvm.MethodName)) ∈ lw_all := lw_g (lw_at lw_m3 171 rfl) rfl
theorem q837 : (Jvm.Cond.fieldLinkNest "TubBites$Water" (124 : Nat) "TubBites$Apple" "soft" "I" "TubBites") ∈ lw_tbl := lw_at lw_m3 213 rfl
theorem q843 : (Jvm.Cond.fieldLinkNest "TubBites$Water" (127 : Nat) "TubBites$Apple" "hasStalk" "Z" "TubBites") ∈ lw_tbl := lw_at lw_m3 219 rfl
theorem q849 : (Jvm.Cond.fieldLinkNest "TubBites$Water" (76 : Nat) "TubBites$Apple" "x" "I" "TubBites") ∈ lw_tbl := lw_at lw_m3 225 rfl
theorem q855 : (Jvm.Cond.fieldLinkNest "TubBites$Water" (79 : Nat) "TubBites$Apple" "y" "I" "TubBites") ∈ lw_tbl := lw_at lw_m3 231 rfl
theorem q859 : (Jvm.Cond.fieldLinkNest "TubBites$Water" (73 : Nat) "TubBites$Apple" "by" "I" "TubBites") ∈ lw_tbl := lw_at lw_m3 235 rfl
theorem q863 : (Jvm.Cond.fieldLinkNest "TubBites$Water" (138 : Nat) "TubBites$Apple" "missed" "I" "TubBites") ∈ lw_tbl := lw_at lw_m3 239 rfl
theorem q867 : (Jvm.Cond.fieldLinkNest "TubBites$Water" (122 : Nat) "TubBites$Apple" "size" "I" "TubBites") ∈ lw_tbl := lw_at lw_m4 3 rfl
theorem q916 : (Jvm.Cond.fieldLinkNest "TubBites$Water" (94 : Nat) "TubBites$Bobber" "x" "I" "TubBites") ∈ lw_tbl := lw_at lw_m4 52 rfl
theorem q920 : (Jvm.Cond.fieldLinkNest "TubBites$Water" (101 : Nat) "TubBites$Bobber" "y" "I" "TubBites") ∈ lw_tbl := lw_at lw_m4 56 rfl
theorem q923 : (Jvm.Cond.fieldLinkNest "TubBites$Water" (162 : Nat) "TubBites$Bobber" "reach" "I" "TubBites") ∈ lw_tbl := lw_at lw_m4 59 rfl
theorem q926 : (Jvm.Cond.fieldLinkNest "TubBites$Water" (212 : Nat) "TubBites$Bobber" "allBreath" "I" "TubBites") ∈ lw_tbl := lw_at lw_m4 62 rfl
theorem q930 : (Jvm.Cond.fieldLinkNest "TubBites$Water" (141 : Nat) "TubBites$Bobber" "mouth" "I" "TubBites") ∈ lw_tbl := lw_at lw_m4 66 rfl
theorem q935 : (Jvm.Cond.fieldLinkNest "TubBites$Water" (144 : Nat) "TubBites$Bobber" "breath" "I" "TubBites") ∈ lw_tbl := lw_at lw_m4 71 rfl
theorem q939 : (Jvm.Cond.fieldLinkNest "TubBites$Water" (206 : Nat) "TubBites$Bobber" "got" "I" "TubBites") ∈ lw_tbl := lw_at lw_m4 75 rfl
theorem q941 : (Jvm.Cond.fieldLinkNest "TubBites$Water" (194 : Nat) "TubBites$Bobber" "seconds" "I" "TubBites") ∈ lw_tbl := lw_at lw_m4 77 rfl
theorem q944 : (Jvm.Cond.fieldLinkNest "TubBites$Water" (203 : Nat) "TubBites$Bobber" "records" "[I" "TubBites") ∈ lw_tbl := lw_at lw_m4 80 rfl
theorem q979 : (Jvm.Cond.instanceMethod ({ cls := "TubBites$Water", name := "begin", desc := "()V" } : Jvm.MethodName)) ∈ lw_all := lw_g (lw_at lw_m4 115 rfl) rfl
theorem q980 : (Jvm.Cond.selects "TubBites$Water" ({ cls := "TubBites$Water", name := "begin", desc := "()V" } : Jvm.MethodName) ({ cls := "TubBites$Water", name := "begin", desc := "()V" } : Jvm.MethodName)) ∈ lw_all := lw_g (lw_at lw_m4 116 rfl) rfl
theorem q981 : (Jvm.Cond.code ({ cls := "TubBites$Water", name := "begin", desc := "()V" } : Jvm.MethodName) prog_20_method_4_code (2 : Nat) (Option.none : Option Jvm.ClassFile.FieldType)) ∈ lw_all := lw_g (lw_at lw_m4 117 rfl) rfl
theorem q982 : (Jvm.Cond.methodLink "TubBites$Water" (51 : Nat) ({ cls := "java/util/ArrayList", name := "size", desc := "()I" } : Jvm.MethodName)) ∈ lw_all := lw_g (lw_at lw_m4 118 rfl) rfl
theorem q983 : (Jvm.Cond.methodLink "TubBites$Water" (55 : Nat) ({ cls := "java/util/ArrayList", name := "get", desc := "(I)Ljava/lang/Object;" } : Jvm.MethodName)) ∈ lw_all := lw_g (lw_at lw_m4 119 rfl) rfl
theorem q984 : (Jvm.Cond.classLink "TubBites$Water" (59 : Nat) "TubBites$Apple") ∈ lw_all := lw_g (lw_at lw_m4 120 rfl) rfl
theorem q985 : (Jvm.Cond.methodLink "TubBites$Water" (61 : Nat) ({ cls := "TubBites$Apple", name := "begin", desc := "()V" } : Jvm.MethodName)) ∈ lw_all := lw_g (lw_at lw_m4 121 rfl) rfl
theorem q989 : (Jvm.Cond.classLink "TubBites$Water" (64 : Nat) "TubBites$Bobber") ∈ lw_all := lw_g (lw_at lw_m4 125 rfl) rfl
theorem q990 : (Jvm.Cond.methodLink "TubBites$Water" (66 : Nat) ({ cls := "TubBites$Bobber", name := "begin", desc := "()V" } : Jvm.MethodName)) ∈ lw_all := lw_g (lw_at lw_m4 126 rfl) rfl
theorem q1030 : (Jvm.Cond.instanceMethod ({ cls := "TubBites$Water", name := "can", desc := "(LTubBites$Bobber;LTubBites$Apple;I)Z" } : Jvm.MethodName)) ∈ lw_all := lw_g (lw_at lw_m4 166 rfl) rfl
theorem q1031 : (Jvm.Cond.selects "TubBites$Water" ({ cls := "TubBites$Water", name := "can", desc := "(LTubBites$Bobber;LTubBites$Apple;I)Z" } : Jvm.MethodName) ({ cls := "TubBites$Water", name := "can", desc := "(LTubBites$Bobber;LTubBites$Apple;I)Z" } : Jvm.MethodName)) ∈ lw_all := lw_g (lw_at lw_m4 167 rfl) rfl
theorem q1032 : (Jvm.Cond.code ({ cls := "TubBites$Water", name := "can", desc := "(LTubBites$Bobber;LTubBites$Apple;I)Z" } : Jvm.MethodName) prog_20_method_13_code (4 : Nat) (Option.some Jvm.ClassFile.FieldType.boolean)) ∈ lw_all := lw_g (lw_at lw_m4 168 rfl) rfl
theorem q1033 : (Jvm.Cond.methodLink "TubBites$Water" (134 : Nat) ({ cls := "TubBites$Bobber", name := "far", desc := "(LTubBites$Apple;)I" } : Jvm.MethodName)) ∈ lw_all := lw_g (lw_at lw_m4 169 rfl) rfl
theorem q1041 : (Jvm.Cond.fieldLinkNest "TubBites$Water" (165 : Nat) "TubBites" "TRIES" "[LTubBites$Try;" "TubBites") ∈ lw_tbl := lw_at lw_m4 177 rfl
theorem q1043 : (Jvm.Cond.methodLink "TubBites$Water" (169 : Nat) ({ cls := "TubBites$Try", name := "breath", desc := "()I" } : Jvm.MethodName)) ∈ lw_all := lw_g (lw_at lw_m4 179 rfl) rfl
theorem q1059 : (Jvm.Cond.methodLink "TubBites$Water" (173 : Nat) ({ cls := "TubBites$Try", name := "suits", desc := "(LTubBites$Water;LTubBites$Bobber;LTubBites$Apple;)Z" } : Jvm.MethodName)) ∈ lw_all := lw_g (lw_at lw_m4 195 rfl) rfl
theorem q1070 : (Jvm.Cond.instanceMethod ({ cls := "TubBites$Water", name := "pushX", desc := "(LTubBites$Bobber;LTubBites$Apple;)I" } : Jvm.MethodName)) ∈ lw_all := lw_g (lw_at lw_m4 206 rfl) rfl
theorem q1071 : (Jvm.Cond.selects "TubBites$Water" ({ cls := "TubBites$Water", name := "pushX", desc := "(LTubBites$Bobber;LTubBites$Apple;)I" } : Jvm.MethodName) ({ cls := "TubBites$Water", name := "pushX", desc := "(LTubBites$Bobber;LTubBites$Apple;)I" } : Jvm.MethodName)) ∈ lw_all := lw_g (lw_at lw_m4 207 rfl) rfl
theorem q1072 : (Jvm.Cond.code ({ cls := "TubBites$Water", name := "pushX", desc := "(LTubBites$Bobber;LTubBites$Apple;)I" } : Jvm.MethodName) prog_20_method_8_code (3 : Nat) (Option.some Jvm.ClassFile.FieldType.int)) ∈ lw_all := lw_g (lw_at lw_m4 208 rfl) rfl
theorem q1073 : (Jvm.Cond.methodLink "TubBites$Water" (102 : Nat) ({ cls := "TubBites$Water", name := "isAcross", desc := "(LTubBites$Bobber;LTubBites$Apple;)Z" } : Jvm.MethodName)) ∈ lw_all := lw_g (lw_at lw_m4 209 rfl) rfl
theorem q1074 : (Jvm.Cond.static ({ cls := "TubBites$Water", name := "isAcross", desc := "(LTubBites$Bobber;LTubBites$Apple;)Z" } : Jvm.MethodName)) ∈ lw_all := lw_g (lw_at lw_m4 210 rfl) rfl
theorem q1075 : (Jvm.Cond.code ({ cls := "TubBites$Water", name := "isAcross", desc := "(LTubBites$Bobber;LTubBites$Apple;)Z" } : Jvm.MethodName) prog_20_method_7_code (2 : Nat) (Option.some Jvm.ClassFile.FieldType.boolean)) ∈ lw_all := lw_g (lw_at lw_m4 211 rfl) rfl
theorem q1076 : (Jvm.Cond.methodLink "TubBites$Water" (95 : Nat) ({ cls := "java/lang/Math", name := "abs", desc := "(I)I" } : Jvm.MethodName)) ∈ lw_all := lw_g (lw_at lw_m4 212 rfl) rfl
theorem q1077 : (Jvm.Cond.methodLink "TubBites$Water" (106 : Nat) ({ cls := "java/lang/Integer", name := "signum", desc := "(I)I" } : Jvm.MethodName)) ∈ lw_all := lw_g (lw_at lw_m4 213 rfl) rfl
theorem q1081 : (Jvm.Cond.instanceMethod ({ cls := "TubBites$Water", name := "pushY", desc := "(LTubBites$Bobber;LTubBites$Apple;)I" } : Jvm.MethodName)) ∈ lw_all := lw_g (lw_at lw_m4 217 rfl) rfl
theorem q1082 : (Jvm.Cond.selects "TubBites$Water" ({ cls := "TubBites$Water", name := "pushY", desc := "(LTubBites$Bobber;LTubBites$Apple;)I" } : Jvm.MethodName) ({ cls := "TubBites$Water", name := "pushY", desc := "(LTubBites$Bobber;LTubBites$Apple;)I" } : Jvm.MethodName)) ∈ lw_all := lw_g (lw_at lw_m4 218 rfl) rfl
theorem q1083 : (Jvm.Cond.code ({ cls := "TubBites$Water", name := "pushY", desc := "(LTubBites$Bobber;LTubBites$Apple;)I" } : Jvm.MethodName) prog_20_method_9_code (3 : Nat) (Option.some Jvm.ClassFile.FieldType.int)) ∈ lw_all := lw_g (lw_at lw_m4 219 rfl) rfl
theorem q1085 : (Jvm.Cond.instanceMethod ({ cls := "TubBites$Water", name := "at", desc := "(II)LTubBites$Apple;" } : Jvm.MethodName)) ∈ lw_all := lw_g (lw_at lw_m4 221 rfl) rfl
theorem q1086 : (Jvm.Cond.selects "TubBites$Water" ({ cls := "TubBites$Water", name := "at", desc := "(II)LTubBites$Apple;" } : Jvm.MethodName) ({ cls := "TubBites$Water", name := "at", desc := "(II)LTubBites$Apple;" } : Jvm.MethodName)) ∈ lw_all := lw_g (lw_at lw_m4 222 rfl) rfl
theorem q1087 : (Jvm.Cond.code ({ cls := "TubBites$Water", name := "at", desc := "(II)LTubBites$Apple;" } : Jvm.MethodName) prog_20_method_5_code (5 : Nat) (Option.some (Jvm.ClassFile.FieldType.object "TubBites$Apple"))) ∈ lw_all := lw_g (lw_at lw_m4 223 rfl) rfl
theorem q1095 : (Jvm.Cond.instanceMethod ({ cls := "TubBites$Water", name := "isRim", desc := "(II)Z" } : Jvm.MethodName)) ∈ lw_all := lw_g (lw_at lw_m4 231 rfl) rfl
theorem q1096 : (Jvm.Cond.selects "TubBites$Water" ({ cls := "TubBites$Water", name := "isRim", desc := "(II)Z" } : Jvm.MethodName) ({ cls := "TubBites$Water", name := "isRim", desc := "(II)Z" } : Jvm.MethodName)) ∈ lw_all := lw_g (lw_at lw_m4 232 rfl) rfl
theorem q1097 : (Jvm.Cond.code ({ cls := "TubBites$Water", name := "isRim", desc := "(II)Z" } : Jvm.MethodName) prog_20_method_3_code (3 : Nat) (Option.some Jvm.ClassFile.FieldType.boolean)) ∈ lw_all := lw_g (lw_at lw_m4 233 rfl) rfl
theorem q1100 : (Jvm.Cond.instanceMethod ({ cls := "TubBites$Water", name := "odds", desc := "(LTubBites$Bobber;LTubBites$Apple;I)I" } : Jvm.MethodName)) ∈ lw_all := lw_g (lw_at lw_m4 236 rfl) rfl
theorem q1101 : (Jvm.Cond.selects "TubBites$Water" ({ cls := "TubBites$Water", name := "odds", desc := "(LTubBites$Bobber;LTubBites$Apple;I)I" } : Jvm.MethodName) ({ cls := "TubBites$Water", name := "odds", desc := "(LTubBites$Bobber;LTubBites$Apple;I)I" } : Jvm.MethodName)) ∈ lw_all := lw_g (lw_at lw_m4 237 rfl) rfl
theorem q1102 : (Jvm.Cond.code ({ cls := "TubBites$Water", name := "odds", desc := "(LTubBites$Bobber;LTubBites$Apple;I)I" } : Jvm.MethodName) prog_20_method_12_code (4 : Nat) (Option.some Jvm.ClassFile.FieldType.int)) ∈ lw_all := lw_g (lw_at lw_m4 238 rfl) rfl
theorem q1103 : (Jvm.Cond.methodLink "TubBites$Water" (147 : Nat) ({ cls := "TubBites$Water", name := "tell", desc := "(LTubBites$Bobber;LTubBites$Apple;)V" } : Jvm.MethodName)) ∈ lw_all := lw_g (lw_at lw_m4 239 rfl) rfl
theorem q1104 : (Jvm.Cond.privateMethod ({ cls := "TubBites$Water", name := "tell", desc := "(LTubBites$Bobber;LTubBites$Apple;)V" } : Jvm.MethodName)) ∈ lw_tbl := lw_at lw_m5 0 rfl
theorem q1105 : (Jvm.Cond.instanceMethod ({ cls := "TubBites$Water", name := "tell", desc := "(LTubBites$Bobber;LTubBites$Apple;)V" } : Jvm.MethodName)) ∈ lw_all := lw_g (lw_at lw_m5 1 rfl) rfl
theorem q1106 : (Jvm.Cond.code ({ cls := "TubBites$Water", name := "tell", desc := "(LTubBites$Bobber;LTubBites$Apple;)V" } : Jvm.MethodName) prog_20_method_11_code (3 : Nat) (Option.none : Option Jvm.ClassFile.FieldType)) ∈ lw_all := lw_g (lw_at lw_m5 2 rfl) rfl
theorem q1107 : (Jvm.Cond.methodLink "TubBites$Water" (131 : Nat) ({ cls := "TubBites$Water", name := "isRim", desc := "(II)Z" } : Jvm.MethodName)) ∈ lw_all := lw_g (lw_at lw_m5 3 rfl) rfl
theorem q1108 : (Jvm.Cond.methodLink "TubBites$Water" (151 : Nat) ({ cls := "TubBites$Part", name := "of", desc := "(LTubBites$Told;)I" } : Jvm.MethodName)) ∈ lw_all := lw_g (lw_at lw_m5 4 rfl) rfl
theorem q1128 : (Jvm.Cond.methodLink "TubBites$Water" (155 : Nat) ({ cls := "java/lang/Math", name := "min", desc := "(II)I" } : Jvm.MethodName)) ∈ lw_all := lw_g (lw_at lw_m5 24 rfl) rfl
theorem q1129 : (Jvm.Cond.methodLink "TubBites$Water" (159 : Nat) ({ cls := "java/lang/Math", name := "max", desc := "(II)I" } : Jvm.MethodName)) ∈ lw_all := lw_g (lw_at lw_m5 25 rfl) rfl
theorem q1144 : (Jvm.Cond.instanceMethod ({ cls := "TubBites$Water", name := "chooses", desc := "(LTubBites$Rule;LTubBites$Bobber;)I" } : Jvm.MethodName)) ∈ lw_all := lw_g (lw_at lw_m5 40 rfl) rfl
theorem q1145 : (Jvm.Cond.selects "TubBites$Water" ({ cls := "TubBites$Water", name := "chooses", desc := "(LTubBites$Rule;LTubBites$Bobber;)I" } : Jvm.MethodName) ({ cls := "TubBites$Water", name := "chooses", desc := "(LTubBites$Rule;LTubBites$Bobber;)I" } : Jvm.MethodName)) ∈ lw_all := lw_g (lw_at lw_m5 41 rfl) rfl
theorem q1146 : (Jvm.Cond.code ({ cls := "TubBites$Water", name := "chooses", desc := "(LTubBites$Rule;LTubBites$Bobber;)I" } : Jvm.MethodName) prog_20_method_15_code (8 : Nat) (Option.some Jvm.ClassFile.FieldType.int)) ∈ lw_all := lw_g (lw_at lw_m5 42 rfl) rfl
theorem q1147 : (Jvm.Cond.methodLink "TubBites$Water" (186 : Nat) ({ cls := "TubBites$Water", name := "can", desc := "(LTubBites$Bobber;LTubBites$Apple;I)Z" } : Jvm.MethodName)) ∈ lw_all := lw_g (lw_at lw_m5 43 rfl) rfl
theorem q1148 : (Jvm.Cond.methodLink "TubBites$Water" (190 : Nat) ({ cls := "TubBites$Water", name := "value", desc := "(LTubBites$Rule;LTubBites$Bobber;LTubBites$Apple;I)I" } : Jvm.MethodName)) ∈ lw_all := lw_g (lw_at lw_m5 44 rfl) rfl
theorem q1149 : (Jvm.Cond.instanceMethod ({ cls := "TubBites$Water", name := "value", desc := "(LTubBites$Rule;LTubBites$Bobber;LTubBites$Apple;I)I" } : Jvm.MethodName)) ∈ lw_all := lw_g (lw_at lw_m5 45 rfl) rfl
theorem q1150 : (Jvm.Cond.selects "TubBites$Water" ({ cls := "TubBites$Water", name := "value", desc := "(LTubBites$Rule;LTubBites$Bobber;LTubBites$Apple;I)I" } : Jvm.MethodName) ({ cls := "TubBites$Water", name := "value", desc := "(LTubBites$Rule;LTubBites$Bobber;LTubBites$Apple;I)I" } : Jvm.MethodName)) ∈ lw_all := lw_g (lw_at lw_m5 46 rfl) rfl
theorem q1151 : (Jvm.Cond.code ({ cls := "TubBites$Water", name := "value", desc := "(LTubBites$Rule;LTubBites$Bobber;LTubBites$Apple;I)I" } : Jvm.MethodName) prog_20_method_14_code (6 : Nat) (Option.some Jvm.ClassFile.FieldType.int)) ∈ lw_all := lw_g (lw_at lw_m5 47 rfl) rfl
theorem q1152 : (Jvm.Cond.methodLink "TubBites$Water" (177 : Nat) ({ cls := "TubBites$Water", name := "odds", desc := "(LTubBites$Bobber;LTubBites$Apple;I)I" } : Jvm.MethodName)) ∈ lw_all := lw_g (lw_at lw_m5 48 rfl) rfl
theorem q1171 : (Jvm.Cond.instanceMethod ({ cls := "TubBites$Water", name := "keep", desc := "()[I" } : Jvm.MethodName)) ∈ lw_all := lw_g (lw_at lw_m5 67 rfl) rfl
theorem q1172 : (Jvm.Cond.selects "TubBites$Water" ({ cls := "TubBites$Water", name := "keep", desc := "()[I" } : Jvm.MethodName) ({ cls := "TubBites$Water", name := "keep", desc := "()[I" } : Jvm.MethodName)) ∈ lw_all := lw_g (lw_at lw_m5 68 rfl) rfl
theorem q1173 : (Jvm.Cond.code ({ cls := "TubBites$Water", name := "keep", desc := "()[I" } : Jvm.MethodName) prog_20_method_23_code (2 : Nat) (Option.some (Jvm.ClassFile.FieldType.array Jvm.ClassFile.FieldType.int))) ∈ lw_all := lw_g (lw_at lw_m5 69 rfl) rfl
theorem q1174 : (Jvm.Cond.methodLink "TubBites$Water" (229 : Nat) ({ cls := "TubBites$Water", name := "keepAt", desc := "([II)V" } : Jvm.MethodName)) ∈ lw_all := lw_g (lw_at lw_m5 70 rfl) rfl
theorem q1175 : (Jvm.Cond.instanceMethod ({ cls := "TubBites$Water", name := "keepAt", desc := "([II)V" } : Jvm.MethodName)) ∈ lw_all := lw_g (lw_at lw_m5 71 rfl) rfl
theorem q1176 : (Jvm.Cond.selects "TubBites$Water" ({ cls := "TubBites$Water", name := "keepAt", desc := "([II)V" } : Jvm.MethodName) ({ cls := "TubBites$Water", name := "keepAt", desc := "([II)V" } : Jvm.MethodName)) ∈ lw_all := lw_g (lw_at lw_m5 72 rfl) rfl
theorem q1177 : (Jvm.Cond.code ({ cls := "TubBites$Water", name := "keepAt", desc := "([II)V" } : Jvm.MethodName) prog_20_method_24_code (5 : Nat) (Option.none : Option Jvm.ClassFile.FieldType)) ∈ lw_all := lw_g (lw_at lw_m5 73 rfl) rfl
theorem q1178 : (Jvm.Cond.methodLink "TubBites$Water" (233 : Nat) ({ cls := "java/lang/System", name := "arraycopy", desc := "(Ljava/lang/Object;ILjava/lang/Object;II)V" } : Jvm.MethodName)) ∈ lw_all := lw_g (lw_at lw_m5 74 rfl) rfl
theorem q1181 : (Jvm.Cond.instanceMethod ({ cls := "TubBites$Water", name := "go", desc := "(III)Z" } : Jvm.MethodName)) ∈ lw_all := lw_g (lw_at lw_m5 77 rfl) rfl
theorem q1182 : (Jvm.Cond.selects "TubBites$Water" ({ cls := "TubBites$Water", name := "go", desc := "(III)Z" } : Jvm.MethodName) ({ cls := "TubBites$Water", name := "go", desc := "(III)Z" } : Jvm.MethodName)) ∈ lw_all := lw_g (lw_at lw_m5 78 rfl) rfl
theorem q1183 : (Jvm.Cond.code ({ cls := "TubBites$Water", name := "go", desc := "(III)Z" } : Jvm.MethodName) prog_20_method_17_code (8 : Nat) (Option.some Jvm.ClassFile.FieldType.boolean)) ∈ lw_all := lw_g (lw_at lw_m5 79 rfl) rfl
theorem q1184 : (Jvm.Cond.methodLink "TubBites$Water" (199 : Nat) ({ cls := "TubBites$Water", name := "takes", desc := "(LTubBites$Bobber;I)V" } : Jvm.MethodName)) ∈ lw_all := lw_g (lw_at lw_m5 80 rfl) rfl
theorem q1185 : (Jvm.Cond.instanceMethod ({ cls := "TubBites$Water", name := "takes", desc := "(LTubBites$Bobber;I)V" } : Jvm.MethodName)) ∈ lw_all := lw_g (lw_at lw_m5 81 rfl) rfl
theorem q1186 : (Jvm.Cond.selects "TubBites$Water" ({ cls := "TubBites$Water", name := "takes", desc := "(LTubBites$Bobber;I)V" } : Jvm.MethodName) ({ cls := "TubBites$Water", name := "takes", desc := "(LTubBites$Bobber;I)V" } : Jvm.MethodName)) ∈ lw_all := lw_g (lw_at lw_m5 82 rfl) rfl
theorem q1187 : (Jvm.Cond.code ({ cls := "TubBites$Water", name := "takes", desc := "(LTubBites$Bobber;I)V" } : Jvm.MethodName) prog_20_method_16_code (3 : Nat) (Option.none : Option Jvm.ClassFile.FieldType)) ∈ lw_all := lw_g (lw_at lw_m5 83 rfl) rfl
theorem q1188 : (Jvm.Cond.methodLink "TubBites$Water" (197 : Nat) ({ cls := "TubBites$Try", name := "seconds", desc := "()I" } : Jvm.MethodName)) ∈ lw_all := lw_g (lw_at lw_m5 84 rfl) rfl
theorem q1206 : (Jvm.Cond.methodLink "TubBites$Water" (209 : Nat) ({ cls := "TubBites$Try", name := "missed", desc := "(LTubBites$Water;LTubBites$Bobber;LTubBites$Apple;)V" } : Jvm.MethodName)) ∈ lw_all := lw_g (lw_at lw_m5 102 rfl) rfl
theorem q1225 : (Jvm.Cond.instanceMethod ({ cls := "TubBites$Water", name := "pushFrom", desc := "(LTubBites$Bobber;LTubBites$Apple;)V" } : Jvm.MethodName)) ∈ lw_all := lw_g (lw_at lw_m5 121 rfl) rfl
theorem q1226 : (Jvm.Cond.selects "TubBites$Water" ({ cls := "TubBites$Water", name := "pushFrom", desc := "(LTubBites$Bobber;LTubBites$Apple;)V" } : Jvm.MethodName) ({ cls := "TubBites$Water", name := "pushFrom", desc := "(LTubBites$Bobber;LTubBites$Apple;)V" } : Jvm.MethodName)) ∈ lw_all := lw_g (lw_at lw_m5 122 rfl) rfl
theorem q1227 : (Jvm.Cond.code ({ cls := "TubBites$Water", name := "pushFrom", desc := "(LTubBites$Bobber;LTubBites$Apple;)V" } : Jvm.MethodName) prog_20_method_10_code (5 : Nat) (Option.none : Option Jvm.ClassFile.FieldType)) ∈ lw_all := lw_g (lw_at lw_m5 123 rfl) rfl
theorem q1228 : (Jvm.Cond.methodLink "TubBites$Water" (111 : Nat) ({ cls := "TubBites$Water", name := "pushX", desc := "(LTubBites$Bobber;LTubBites$Apple;)I" } : Jvm.MethodName)) ∈ lw_all := lw_g (lw_at lw_m5 124 rfl) rfl
theorem q1229 : (Jvm.Cond.methodLink "TubBites$Water" (115 : Nat) ({ cls := "TubBites$Water", name := "pushY", desc := "(LTubBites$Bobber;LTubBites$Apple;)I" } : Jvm.MethodName)) ∈ lw_all := lw_g (lw_at lw_m5 125 rfl) rfl
theorem q1230 : (Jvm.Cond.methodLink "TubBites$Water" (90 : Nat) ({ cls := "TubBites$Water", name := "push", desc := "(LTubBites$Apple;II)Z" } : Jvm.MethodName)) ∈ lw_all := lw_g (lw_at lw_m5 126 rfl) rfl
theorem q1231 : (Jvm.Cond.privateMethod ({ cls := "TubBites$Water", name := "push", desc := "(LTubBites$Apple;II)Z" } : Jvm.MethodName)) ∈ lw_tbl := lw_at lw_m5 127 rfl
theorem q1232 : (Jvm.Cond.instanceMethod ({ cls := "TubBites$Water", name := "push", desc := "(LTubBites$Apple;II)Z" } : Jvm.MethodName)) ∈ lw_all := lw_g (lw_at lw_m5 128 rfl) rfl
theorem q1233 : (Jvm.Cond.code ({ cls := "TubBites$Water", name := "push", desc := "(LTubBites$Apple;II)Z" } : Jvm.MethodName) prog_20_method_6_code (5 : Nat) (Option.some Jvm.ClassFile.FieldType.boolean)) ∈ lw_all := lw_g (lw_at lw_m5 129 rfl) rfl
theorem q1234 : (Jvm.Cond.methodLink "TubBites$Water" (82 : Nat) ({ cls := "TubBites$Water", name := "isCell", desc := "(II)Z" } : Jvm.MethodName)) ∈ lw_all := lw_g (lw_at lw_m5 130 rfl) rfl
theorem q1235 : (Jvm.Cond.instanceMethod ({ cls := "TubBites$Water", name := "isCell", desc := "(II)Z" } : Jvm.MethodName)) ∈ lw_all := lw_g (lw_at lw_m5 131 rfl) rfl
theorem q1236 : (Jvm.Cond.selects "TubBites$Water" ({ cls := "TubBites$Water", name := "isCell", desc := "(II)Z" } : Jvm.MethodName) ({ cls := "TubBites$Water", name := "isCell", desc := "(II)Z" } : Jvm.MethodName)) ∈ lw_all := lw_g (lw_at lw_m5 132 rfl) rfl
theorem q1237 : (Jvm.Cond.code ({ cls := "TubBites$Water", name := "isCell", desc := "(II)Z" } : Jvm.MethodName) prog_20_method_2_code (3 : Nat) (Option.some Jvm.ClassFile.FieldType.boolean)) ∈ lw_all := lw_g (lw_at lw_m5 133 rfl) rfl
theorem q1238 : (Jvm.Cond.methodLinkNest "TubBites$Water" (44 : Nat) ({ cls := "TubBites", name := "isIn", desc := "(III)Z" } : Jvm.MethodName) "TubBites") ∈ lw_tbl := lw_at lw_m5 134 rfl
theorem q1239 : (Jvm.Cond.methodLink "TubBites$Water" (86 : Nat) ({ cls := "TubBites$Water", name := "at", desc := "(II)LTubBites$Apple;" } : Jvm.MethodName)) ∈ lw_all := lw_g (lw_at lw_m5 135 rfl) rfl
theorem q1249 : (Jvm.Cond.instanceMethod ({ cls := "TubBites$Water", name := "breathes", desc := "(LTubBites$Bobber;)V" } : Jvm.MethodName)) ∈ lw_all := lw_g (lw_at lw_m5 145 rfl) rfl
theorem q1250 : (Jvm.Cond.selects "TubBites$Water" ({ cls := "TubBites$Water", name := "breathes", desc := "(LTubBites$Bobber;)V" } : Jvm.MethodName) ({ cls := "TubBites$Water", name := "breathes", desc := "(LTubBites$Bobber;)V" } : Jvm.MethodName)) ∈ lw_all := lw_g (lw_at lw_m5 146 rfl) rfl
theorem q1251 : (Jvm.Cond.code ({ cls := "TubBites$Water", name := "breathes", desc := "(LTubBites$Bobber;)V" } : Jvm.MethodName) prog_20_method_18_code (2 : Nat) (Option.none : Option Jvm.ClassFile.FieldType)) ∈ lw_all := lw_g (lw_at lw_m5 147 rfl) rfl
theorem q1257 : (Jvm.Cond.instanceMethod ({ cls := "TubBites$Water", name := "wave", desc := "(I)I" } : Jvm.MethodName)) ∈ lw_all := lw_g (lw_at lw_m5 153 rfl) rfl
theorem q1258 : (Jvm.Cond.selects "TubBites$Water" ({ cls := "TubBites$Water", name := "wave", desc := "(I)I" } : Jvm.MethodName) ({ cls := "TubBites$Water", name := "wave", desc := "(I)I" } : Jvm.MethodName)) ∈ lw_all := lw_g (lw_at lw_m5 154 rfl) rfl
theorem q1259 : (Jvm.Cond.code ({ cls := "TubBites$Water", name := "wave", desc := "(I)I" } : Jvm.MethodName) prog_20_method_21_code (9 : Nat) (Option.some Jvm.ClassFile.FieldType.int)) ∈ lw_all := lw_g (lw_at lw_m5 155 rfl) rfl
theorem q1260 : (Jvm.Cond.methodLink "TubBites$Water" (226 : Nat) ({ cls := "TubBites$Water", name := "drifts", desc := "(LTubBites$Apple;II)Z" } : Jvm.MethodName)) ∈ lw_all := lw_g (lw_at lw_m5 156 rfl) rfl
theorem q1261 : (Jvm.Cond.privateMethod ({ cls := "TubBites$Water", name := "drifts", desc := "(LTubBites$Apple;II)Z" } : Jvm.MethodName)) ∈ lw_tbl := lw_at lw_m5 157 rfl
theorem q1262 : (Jvm.Cond.instanceMethod ({ cls := "TubBites$Water", name := "drifts", desc := "(LTubBites$Apple;II)Z" } : Jvm.MethodName)) ∈ lw_all := lw_g (lw_at lw_m5 158 rfl) rfl
theorem q1263 : (Jvm.Cond.code ({ cls := "TubBites$Water", name := "drifts", desc := "(LTubBites$Apple;II)Z" } : Jvm.MethodName) prog_20_method_20_code (4 : Nat) (Option.some Jvm.ClassFile.FieldType.boolean)) ∈ lw_all := lw_g (lw_at lw_m5 159 rfl) rfl
theorem q1269 : (Jvm.Cond.instanceMethod ({ cls := "TubBites$Water", name := "turn", desc := "(ILTubBites$Rule;)Z" } : Jvm.MethodName)) ∈ lw_all := lw_g (lw_at lw_m5 165 rfl) rfl
theorem q1270 : (Jvm.Cond.selects "TubBites$Water" ({ cls := "TubBites$Water", name := "turn", desc := "(ILTubBites$Rule;)Z" } : Jvm.MethodName) ({ cls := "TubBites$Water", name := "turn", desc := "(ILTubBites$Rule;)Z" } : Jvm.MethodName)) ∈ lw_all := lw_g (lw_at lw_m5 166 rfl) rfl
theorem q1271 : (Jvm.Cond.code ({ cls := "TubBites$Water", name := "turn", desc := "(ILTubBites$Rule;)Z" } : Jvm.MethodName) prog_20_method_19_code (5 : Nat) (Option.some Jvm.ClassFile.FieldType.boolean)) ∈ lw_all := lw_g (lw_at lw_m5 167 rfl) rfl
theorem q1272 : (Jvm.Cond.methodLink "TubBites$Water" (215 : Nat) ({ cls := "TubBites$Water", name := "chooses", desc := "(LTubBites$Rule;LTubBites$Bobber;)I" } : Jvm.MethodName)) ∈ lw_all := lw_g (lw_at lw_m5 168 rfl) rfl
theorem q1273 : (Jvm.Cond.methodLink "TubBites$Water" (219 : Nat) ({ cls := "TubBites$Water", name := "breathes", desc := "(LTubBites$Bobber;)V" } : Jvm.MethodName)) ∈ lw_all := lw_g (lw_at lw_m5 169 rfl) rfl
theorem q1274 : (Jvm.Cond.methodLink "TubBites$Water" (223 : Nat) ({ cls := "TubBites$Water", name := "go", desc := "(III)Z" } : Jvm.MethodName)) ∈ lw_all := lw_g (lw_at lw_m5 170 rfl) rfl
theorem q1284 : (Jvm.Cond.instanceMethod ({ cls := "TubBites$Water", name := "bring", desc := "([I)V" } : Jvm.MethodName)) ∈ lw_all := lw_g (lw_at lw_m5 180 rfl) rfl
theorem q1285 : (Jvm.Cond.selects "TubBites$Water" ({ cls := "TubBites$Water", name := "bring", desc := "([I)V" } : Jvm.MethodName) ({ cls := "TubBites$Water", name := "bring", desc := "([I)V" } : Jvm.MethodName)) ∈ lw_all := lw_g (lw_at lw_m5 181 rfl) rfl
theorem q1286 : (Jvm.Cond.code ({ cls := "TubBites$Water", name := "bring", desc := "([I)V" } : Jvm.MethodName) prog_20_method_25_code (2 : Nat) (Option.none : Option Jvm.ClassFile.FieldType)) ∈ lw_all := lw_g (lw_at lw_m5 182 rfl) rfl
theorem q1287 : (Jvm.Cond.methodLink "TubBites$Water" (239 : Nat) ({ cls := "TubBites$Water", name := "bringAt", desc := "([II)V" } : Jvm.MethodName)) ∈ lw_all := lw_g (lw_at lw_m5 183 rfl) rfl
theorem q1288 : (Jvm.Cond.instanceMethod ({ cls := "TubBites$Water", name := "bringAt", desc := "([II)V" } : Jvm.MethodName)) ∈ lw_all := lw_g (lw_at lw_m5 184 rfl) rfl
theorem q1289 : (Jvm.Cond.selects "TubBites$Water" ({ cls := "TubBites$Water", name := "bringAt", desc := "([II)V" } : Jvm.MethodName) ({ cls := "TubBites$Water", name := "bringAt", desc := "([II)V" } : Jvm.MethodName)) ∈ lw_all := lw_g (lw_at lw_m5 185 rfl) rfl
theorem q1290 : (Jvm.Cond.code ({ cls := "TubBites$Water", name := "bringAt", desc := "([II)V" } : Jvm.MethodName) prog_20_method_26_code (5 : Nat) (Option.none : Option Jvm.ClassFile.FieldType)) ∈ lw_all := lw_g (lw_at lw_m5 186 rfl) rfl
theorem q1389 : (Jvm.Cond.instanceMethod ({ cls := "TubBites$Water", name := "left", desc := "()I" } : Jvm.MethodName)) ∈ lw_all := lw_g (lw_at lw_m6 45 rfl) rfl
theorem q1390 : (Jvm.Cond.selects "TubBites$Water" ({ cls := "TubBites$Water", name := "left", desc := "()I" } : Jvm.MethodName) ({ cls := "TubBites$Water", name := "left", desc := "()I" } : Jvm.MethodName)) ∈ lw_all := lw_g (lw_at lw_m6 46 rfl) rfl
theorem q1391 : (Jvm.Cond.code ({ cls := "TubBites$Water", name := "left", desc := "()I" } : Jvm.MethodName) prog_20_method_22_code (3 : Nat) (Option.some Jvm.ClassFile.FieldType.int)) ∈ lw_all := lw_g (lw_at lw_m6 47 rfl) rfl
theorem q2368 : (Jvm.Cond.castable "TubBites$Water" "java/lang/Object") ∈ lw_tbl := lw_at lw_m10 64 rfl
theorem in_X1 : ∀ w ∈ wsX10, w ∈ lw_all := lw_in wsX10 [261, 263, 265, 267, 269, 271, 273, 275, 277, 279, 281, 283, 285, 287] (by decide +kernel) (by decide +kernel)

/-! TubBites$Numeral -/
set_option maxRecDepth 100000
def RX10 : String := "TubBites$Numeral"
def TX10 : u_T := fun k => match k with
  | _ => ("TubBites$Numeral", "v", "I", true)
def tyX10 : Nat → FieldType := fun k => match k with
  | _ => .int
abbrev wsX100 : List Cond := u_ws RX10 TX10 1
theorem nmX10 : ∀ a, a < 1 → ∀ b, b < 1 → a ≠ b → (TX10 a).2.1 ≠ (TX10 b).2.1 := by decide +kernel
theorem tyX10_ok : ∀ k, k < 1 → parseFieldDescriptor (TX10 k).2.2.1 = some (tyX10 k) := by decide +kernel
abbrev cX10_init : ByteArray := prog_10_method_1_code
def yX10_init : MethodName := ⟨RX10, "<init>", "(I)V"⟩
def dkwX10_init_0 : List UInt8 := [42, 183, 0, 1, 42, 27, 181, 0, 7, 177]
abbrev dktX10_init_0 : List UInt8 := dkwX10_init_0 ++ []
theorem dksX10_init_0 : cX10_init.data.toList.drop 0 = dktX10_init_0 := by decide +kernel
theorem dX10_init_0 : decode cX10_init 0 = .ok (.aload_n 0, 1) := dk_42 (dk_at dksX10_init_0 0 rfl rfl)
theorem dX10_init_1 : decode cX10_init 1 = .ok (.invokespecial 1, 3) := dk_183 0 1 (dk_at dksX10_init_0 1 rfl rfl)
theorem dX10_init_4 : decode cX10_init 4 = .ok (.aload_n 0, 1) := dk_42 (dk_at dksX10_init_0 4 rfl rfl)
theorem dX10_init_5 : decode cX10_init 5 = .ok (.iload_n 1, 1) := dk_27 (dk_at dksX10_init_0 5 rfl rfl)
theorem dX10_init_6 : decode cX10_init 6 = .ok (.putfield 7, 3) := dk_181 0 7 (dk_at dksX10_init_0 6 rfl rfl)
theorem dX10_init_9 : decode cX10_init 9 = .ok (.return_, 1) := dk_177 (dk_at dksX10_init_0 9 rfl rfl)
abbrev cX10_of : ByteArray := prog_10_method_2_code
def yX10_of : MethodName := ⟨RX10, "of", "(LTubBites$Told;)I"⟩
theorem dX10_of_0 : decode cX10_of 0 = .ok (.aload_n 0, 1) := by decide +kernel
theorem dX10_of_1 : decode cX10_of 1 = .ok (.getfield 7, 3) := by decide +kernel
theorem dX10_of_4 : decode cX10_of 4 = .ok (.ireturn, 1) := by decide +kernel
theorem q165 : (Jvm.Cond.initialized "TubBites$Numeral") ∈ lw_all := lw_g (lw_at lw_m1 21 rfl) rfl
theorem q696 : (Jvm.Cond.instantiable "TubBites$Numeral" (1 : Nat)) ∈ lw_all := lw_g (lw_at lw_m3 72 rfl) rfl
theorem q698 : (Jvm.Cond.instanceMethod ({ cls := "TubBites$Numeral", name := "<init>", desc := "(I)V" } : Jvm.MethodName)) ∈ lw_all := lw_g (lw_at lw_m3 74 rfl) rfl
theorem q699 : (Jvm.Cond.code ({ cls := "TubBites$Numeral", name := "<init>", desc := "(I)V" } : Jvm.MethodName) prog_10_method_1_code (2 : Nat) (Option.none : Option Jvm.ClassFile.FieldType)) ∈ lw_all := lw_g (lw_at lw_m3 75 rfl) rfl
theorem q700 : (Jvm.Cond.methodLinkNest "TubBites$Numeral" (1 : Nat) ({ cls := "TubBites$Part", name := "<init>", desc := "()V" } : Jvm.MethodName) "TubBites") ∈ lw_tbl := lw_at lw_m3 76 rfl
theorem q701 : (Jvm.Cond.fieldLink "TubBites$Numeral" (7 : Nat) "TubBites$Numeral" "v" "I") ∈ lw_all := lw_g (lw_at lw_m3 77 rfl) rfl
theorem q702 : (Jvm.Cond.laysFinal "TubBites$Numeral" "TubBites$Numeral" "v" "I") ∈ lw_all := lw_g (lw_at lw_m3 78 rfl) rfl
theorem q703 : (Jvm.Cond.soleField "TubBites$Numeral" "v") ∈ lw_all := lw_g (lw_at lw_m3 79 rfl) rfl
theorem q704 : (Jvm.Cond.superclass "TubBites$Numeral" "TubBites$Part") ∈ lw_all := lw_g (lw_at lw_m3 80 rfl) rfl
theorem q787 : (Jvm.Cond.selects "TubBites$Numeral" ({ cls := "java/lang/Object", name := "getClass", desc := "()Ljava/lang/Class;" } : Jvm.MethodName) ({ cls := "java/lang/Object", name := "getClass", desc := "()Ljava/lang/Class;" } : Jvm.MethodName)) ∈ lw_all := lw_g (lw_at lw_m3 163 rfl) rfl
theorem q1118 : (Jvm.Cond.instanceMethod ({ cls := "TubBites$Numeral", name := "of", desc := "(LTubBites$Told;)I" } : Jvm.MethodName)) ∈ lw_all := lw_g (lw_at lw_m5 14 rfl) rfl
theorem q1119 : (Jvm.Cond.code ({ cls := "TubBites$Numeral", name := "of", desc := "(LTubBites$Told;)I" } : Jvm.MethodName) prog_10_method_2_code (2 : Nat) (Option.some Jvm.ClassFile.FieldType.int)) ∈ lw_all := lw_g (lw_at lw_m5 15 rfl) rfl
theorem q1126 : (Jvm.Cond.selects "TubBites$Numeral" ({ cls := "TubBites$Part", name := "of", desc := "(LTubBites$Told;)I" } : Jvm.MethodName) ({ cls := "TubBites$Numeral", name := "of", desc := "(LTubBites$Told;)I" } : Jvm.MethodName)) ∈ lw_all := lw_g (lw_at lw_m5 22 rfl) rfl
theorem q2376 : (Jvm.Cond.castable "TubBites$Numeral" "java/lang/Object") ∈ lw_tbl := lw_at lw_m10 72 rfl
theorem q2389 : (Jvm.Cond.castable "TubBites$Numeral" "TubBites$Part") ∈ lw_tbl := lw_at lw_m10 85 rfl
theorem in_X10 : ∀ w ∈ wsX100, w ∈ lw_all := lw_in wsX100 [702] (by decide +kernel) (by decide +kernel)

/-! TubBites$Named -/
set_option maxRecDepth 100000
def RX11 : String := "TubBites$Named"
def TX11 : u_T := fun k => match k with
  | _ => ("TubBites$Named", "which", "I", true)
def tyX11 : Nat → FieldType := fun k => match k with
  | _ => .int
abbrev wsX110 : List Cond := u_ws RX11 TX11 1
theorem nmX11 : ∀ a, a < 1 → ∀ b, b < 1 → a ≠ b → (TX11 a).2.1 ≠ (TX11 b).2.1 := by decide +kernel
theorem tyX11_ok : ∀ k, k < 1 → parseFieldDescriptor (TX11 k).2.2.1 = some (tyX11 k) := by decide +kernel
abbrev cX11_init : ByteArray := prog_8_method_1_code
def yX11_init : MethodName := ⟨RX11, "<init>", "(I)V"⟩
def dkwX11_init_0 : List UInt8 := [42, 183, 0, 1, 42, 27, 181, 0, 7, 177]
abbrev dktX11_init_0 : List UInt8 := dkwX11_init_0 ++ []
theorem dksX11_init_0 : cX11_init.data.toList.drop 0 = dktX11_init_0 := by decide +kernel
theorem dX11_init_0 : decode cX11_init 0 = .ok (.aload_n 0, 1) := dk_42 (dk_at dksX11_init_0 0 rfl rfl)
theorem dX11_init_1 : decode cX11_init 1 = .ok (.invokespecial 1, 3) := dk_183 0 1 (dk_at dksX11_init_0 1 rfl rfl)
theorem dX11_init_4 : decode cX11_init 4 = .ok (.aload_n 0, 1) := dk_42 (dk_at dksX11_init_0 4 rfl rfl)
theorem dX11_init_5 : decode cX11_init 5 = .ok (.iload_n 1, 1) := dk_27 (dk_at dksX11_init_0 5 rfl rfl)
theorem dX11_init_6 : decode cX11_init 6 = .ok (.putfield 7, 3) := dk_181 0 7 (dk_at dksX11_init_0 6 rfl rfl)
theorem dX11_init_9 : decode cX11_init 9 = .ok (.return_, 1) := dk_177 (dk_at dksX11_init_0 9 rfl rfl)
abbrev cX11_of : ByteArray := prog_8_method_2_code
def yX11_of : MethodName := ⟨RX11, "of", "(LTubBites$Told;)I"⟩
def dkwX11_of_0 : List UInt8 := [43, 180, 0, 13, 42, 180, 0, 7, 46, 172]
abbrev dktX11_of_0 : List UInt8 := dkwX11_of_0 ++ []
theorem dksX11_of_0 : cX11_of.data.toList.drop 0 = dktX11_of_0 := by decide +kernel
theorem dX11_of_0 : decode cX11_of 0 = .ok (.aload_n 1, 1) := dk_43 (dk_at dksX11_of_0 0 rfl rfl)
theorem dX11_of_1 : decode cX11_of 1 = .ok (.getfield 13, 3) := dk_180 0 13 (dk_at dksX11_of_0 1 rfl rfl)
theorem dX11_of_4 : decode cX11_of 4 = .ok (.aload_n 0, 1) := dk_42 (dk_at dksX11_of_0 4 rfl rfl)
theorem dX11_of_5 : decode cX11_of 5 = .ok (.getfield 7, 3) := dk_180 0 7 (dk_at dksX11_of_0 5 rfl rfl)
theorem dX11_of_8 : decode cX11_of 8 = .ok (.iaload, 1) := dk_46 (dk_at dksX11_of_0 8 rfl rfl)
theorem dX11_of_9 : decode cX11_of 9 = .ok (.ireturn, 1) := dk_172 (dk_at dksX11_of_0 9 rfl rfl)
theorem q166 : (Jvm.Cond.initialized "TubBites$Named") ∈ lw_all := lw_g (lw_at lw_m1 22 rfl) rfl
theorem q225 : (Jvm.Cond.fieldLinkNest "TubBites$Named" (13 : Nat) "TubBites$Told" "its" "[I" "TubBites") ∈ lw_tbl := lw_at lw_m1 81 rfl
theorem q706 : (Jvm.Cond.instantiable "TubBites$Named" (1 : Nat)) ∈ lw_all := lw_g (lw_at lw_m3 82 rfl) rfl
theorem q708 : (Jvm.Cond.instanceMethod ({ cls := "TubBites$Named", name := "<init>", desc := "(I)V" } : Jvm.MethodName)) ∈ lw_all := lw_g (lw_at lw_m3 84 rfl) rfl
theorem q709 : (Jvm.Cond.code ({ cls := "TubBites$Named", name := "<init>", desc := "(I)V" } : Jvm.MethodName) prog_8_method_1_code (2 : Nat) (Option.none : Option Jvm.ClassFile.FieldType)) ∈ lw_all := lw_g (lw_at lw_m3 85 rfl) rfl
theorem q710 : (Jvm.Cond.methodLinkNest "TubBites$Named" (1 : Nat) ({ cls := "TubBites$Part", name := "<init>", desc := "()V" } : Jvm.MethodName) "TubBites") ∈ lw_tbl := lw_at lw_m3 86 rfl
theorem q711 : (Jvm.Cond.fieldLink "TubBites$Named" (7 : Nat) "TubBites$Named" "which" "I") ∈ lw_all := lw_g (lw_at lw_m3 87 rfl) rfl
theorem q712 : (Jvm.Cond.laysFinal "TubBites$Named" "TubBites$Named" "which" "I") ∈ lw_all := lw_g (lw_at lw_m3 88 rfl) rfl
theorem q713 : (Jvm.Cond.soleField "TubBites$Named" "which") ∈ lw_all := lw_g (lw_at lw_m3 89 rfl) rfl
theorem q714 : (Jvm.Cond.superclass "TubBites$Named" "TubBites$Part") ∈ lw_all := lw_g (lw_at lw_m3 90 rfl) rfl
theorem q785 : (Jvm.Cond.selects "TubBites$Named" ({ cls := "java/lang/Object", name := "getClass", desc := "()Ljava/lang/Class;" } : Jvm.MethodName) ({ cls := "java/lang/Object", name := "getClass", desc := "()Ljava/lang/Class;" } : Jvm.MethodName)) ∈ lw_all := lw_g (lw_at lw_m3 161 rfl) rfl
theorem q1111 : (Jvm.Cond.selects "TubBites$Named" ({ cls := "TubBites$Part", name := "of", desc := "(LTubBites$Told;)I" } : Jvm.MethodName) ({ cls := "TubBites$Named", name := "of", desc := "(LTubBites$Told;)I" } : Jvm.MethodName)) ∈ lw_all := lw_g (lw_at lw_m5 7 rfl) rfl
theorem q1112 : (Jvm.Cond.instanceMethod ({ cls := "TubBites$Named", name := "of", desc := "(LTubBites$Told;)I" } : Jvm.MethodName)) ∈ lw_all := lw_g (lw_at lw_m5 8 rfl) rfl
theorem q1113 : (Jvm.Cond.code ({ cls := "TubBites$Named", name := "of", desc := "(LTubBites$Told;)I" } : Jvm.MethodName) prog_8_method_2_code (2 : Nat) (Option.some Jvm.ClassFile.FieldType.int)) ∈ lw_all := lw_g (lw_at lw_m5 9 rfl) rfl
theorem q2377 : (Jvm.Cond.castable "TubBites$Named" "java/lang/Object") ∈ lw_tbl := lw_at lw_m10 73 rfl
theorem q2390 : (Jvm.Cond.castable "TubBites$Named" "TubBites$Part") ∈ lw_tbl := lw_at lw_m10 86 rfl
theorem in_X11 : ∀ w ∈ wsX110, w ∈ lw_all := lw_in wsX110 [712] (by decide +kernel) (by decide +kernel)

/-! TubBites$Two -/
set_option maxRecDepth 100000
def RX12 : String := "TubBites$Two"
def TX12 : u_T := fun k => match k with
  | 0 => ("TubBites$Two", "sign", "I", true)
  | 1 => ("TubBites$Two", "a", "LTubBites$Part;", true)
  | _ => ("TubBites$Two", "b", "LTubBites$Part;", true)
def tyX12 : Nat → FieldType := fun k => match k with
  | 0 => .int
  | 1 => .object "TubBites$Part"
  | _ => .object "TubBites$Part"
abbrev wsX120 : List Cond := u_ws RX12 TX12 3
theorem nmX12 : ∀ a, a < 3 → ∀ b, b < 3 → a ≠ b → (TX12 a).2.1 ≠ (TX12 b).2.1 := by decide +kernel
theorem tyX12_ok : ∀ k, k < 3 → parseFieldDescriptor (TX12 k).2.2.1 = some (tyX12 k) := by decide +kernel
abbrev cX12_init : ByteArray := prog_18_method_1_code
def yX12_init : MethodName := ⟨RX12, "<init>", "(ILTubBites$Part;LTubBites$Part;)V"⟩
def dkwX12_init_0 : List UInt8 := [42, 183, 0, 1, 42, 27, 181, 0, 7, 42, 44, 181, 0, 13, 42, 45, 181, 0, 17, 177]
abbrev dktX12_init_0 : List UInt8 := dkwX12_init_0 ++ []
theorem dksX12_init_0 : cX12_init.data.toList.drop 0 = dktX12_init_0 := by decide +kernel
theorem dX12_init_0 : decode cX12_init 0 = .ok (.aload_n 0, 1) := dk_42 (dk_at dksX12_init_0 0 rfl rfl)
theorem dX12_init_1 : decode cX12_init 1 = .ok (.invokespecial 1, 3) := dk_183 0 1 (dk_at dksX12_init_0 1 rfl rfl)
theorem dX12_init_4 : decode cX12_init 4 = .ok (.aload_n 0, 1) := dk_42 (dk_at dksX12_init_0 4 rfl rfl)
theorem dX12_init_5 : decode cX12_init 5 = .ok (.iload_n 1, 1) := dk_27 (dk_at dksX12_init_0 5 rfl rfl)
theorem dX12_init_6 : decode cX12_init 6 = .ok (.putfield 7, 3) := dk_181 0 7 (dk_at dksX12_init_0 6 rfl rfl)
theorem dX12_init_9 : decode cX12_init 9 = .ok (.aload_n 0, 1) := dk_42 (dk_at dksX12_init_0 9 rfl rfl)
theorem dX12_init_10 : decode cX12_init 10 = .ok (.aload_n 2, 1) := dk_44 (dk_at dksX12_init_0 10 rfl rfl)
theorem dX12_init_11 : decode cX12_init 11 = .ok (.putfield 13, 3) := dk_181 0 13 (dk_at dksX12_init_0 11 rfl rfl)
theorem dX12_init_14 : decode cX12_init 14 = .ok (.aload_n 0, 1) := dk_42 (dk_at dksX12_init_0 14 rfl rfl)
theorem dX12_init_15 : decode cX12_init 15 = .ok (.aload_n 3, 1) := dk_45 (dk_at dksX12_init_0 15 rfl rfl)
theorem dX12_init_16 : decode cX12_init 16 = .ok (.putfield 17, 3) := dk_181 0 17 (dk_at dksX12_init_0 16 rfl rfl)
theorem dX12_init_19 : decode cX12_init 19 = .ok (.return_, 1) := dk_177 (dk_at dksX12_init_0 19 rfl rfl)
abbrev cX12_of : ByteArray := prog_18_method_3_code
def yX12_of : MethodName := ⟨RX12, "of", "(LTubBites$Told;)I"⟩
def dkwX12_of_6 : List UInt8 := [172, 28, 154, 0, 7, 29, 153, 0, 7, 4, 167, 0, 4, 3, 184, 0, 24, 172]
abbrev dktX12_of_6 : List UInt8 := dkwX12_of_6 ++ []
def dkwX12_of_5 : List UInt8 := [167, 0, 4, 3, 184, 0, 24, 172, 28, 153, 0, 11, 29, 153, 0, 7, 4, 167, 0, 4, 3, 184, 0, 24]
abbrev dktX12_of_5 : List UInt8 := dkwX12_of_5 ++ dktX12_of_6
def dkwX12_of_4 : List UInt8 := [184, 0, 24, 172, 28, 29, 164, 0, 7, 4, 167, 0, 4, 3, 184, 0, 24, 172, 28, 29, 160, 0, 7, 4]
abbrev dktX12_of_4 : List UInt8 := dkwX12_of_4 ++ dktX12_of_5
def dkwX12_of_3 : List UInt8 := [29, 154, 0, 7, 3, 167, 0, 6, 28, 29, 112, 172, 28, 29, 162, 0, 7, 4, 167, 0, 4, 3]
abbrev dktX12_of_3 : List UInt8 := dkwX12_of_3 ++ dktX12_of_4
def dkwX12_of_2 : List UInt8 := [28, 29, 96, 172, 28, 29, 100, 172, 28, 29, 104, 172, 29, 154, 0, 7, 3, 167, 0, 6, 28, 29, 108, 172]
abbrev dktX12_of_2 : List UInt8 := dkwX12_of_2 ++ dktX12_of_3
def dkwX12_of_1 : List UInt8 := [170, 0, 0, 0, 0, 213, 0, 0, 0, 37, 0, 0, 0, 62, 0, 0, 0, 142, 0, 0, 0, 196, 0, 0, 0, 213, 0, 0, 0, 213, 0, 0, 0, 213, 0, 0, 0, 126, 0, 0, 0, 118, 0, 0, 0, 213, 0, 0, 0, 122, 0, 0, 0, 213, 0, 0, 0, 130, 0, 0, 0, 213, 0, 0, 0, 213, 0, 0, 0, 213, 0, 0, 0, 213, 0, 0, 0, 213, 0, 0, 0, 213, 0, 0, 0, 213, 0, 0, 0, 213, 0, 0, 0, 213, 0, 0, 0, 213, 0, 0, 0, 213, 0, 0, 0, 213, 0, 0, 0, 154, 0, 0, 0, 182, 0, 0, 0, 168]
abbrev dktX12_of_1 : List UInt8 := dkwX12_of_1 ++ dktX12_of_2
def dkwX12_of_0 : List UInt8 := [42, 180, 0, 13, 43, 182, 0, 20, 61, 42, 180, 0, 17, 43, 182, 0, 20, 62, 42, 180, 0, 7]
abbrev dktX12_of_0 : List UInt8 := dkwX12_of_0 ++ dktX12_of_1
theorem dksX12_of_0 : cX12_of.data.toList.drop 0 = dktX12_of_0 := by decide +kernel
theorem dksX12_of_1 : cX12_of.data.toList.drop 22 = dktX12_of_1 := dk_seg dksX12_of_0 22 rfl rfl
theorem dksX12_of_2 : cX12_of.data.toList.drop 140 = dktX12_of_2 := dk_seg dksX12_of_1 118 rfl rfl
theorem dksX12_of_3 : cX12_of.data.toList.drop 164 = dktX12_of_3 := dk_seg dksX12_of_2 24 rfl rfl
theorem dksX12_of_4 : cX12_of.data.toList.drop 186 = dktX12_of_4 := dk_seg dksX12_of_3 22 rfl rfl
theorem dksX12_of_5 : cX12_of.data.toList.drop 210 = dktX12_of_5 := dk_seg dksX12_of_4 24 rfl rfl
theorem dksX12_of_6 : cX12_of.data.toList.drop 234 = dktX12_of_6 := dk_seg dksX12_of_5 24 rfl rfl
theorem dX12_of_0 : decode cX12_of 0 = .ok (.aload_n 0, 1) := dk_42 (dk_at dksX12_of_0 0 rfl rfl)
theorem dX12_of_1 : decode cX12_of 1 = .ok (.getfield 13, 3) := dk_180 0 13 (dk_at dksX12_of_0 1 rfl rfl)
theorem dX12_of_4 : decode cX12_of 4 = .ok (.aload_n 1, 1) := dk_43 (dk_at dksX12_of_0 4 rfl rfl)
theorem dX12_of_5 : decode cX12_of 5 = .ok (.invokevirtual 20, 3) := dk_182 0 20 (dk_at dksX12_of_0 5 rfl rfl)
theorem dX12_of_8 : decode cX12_of 8 = .ok (.istore_n 2, 1) := dk_61 (dk_at dksX12_of_0 8 rfl rfl)
theorem dX12_of_9 : decode cX12_of 9 = .ok (.aload_n 0, 1) := dk_42 (dk_at dksX12_of_0 9 rfl rfl)
theorem dX12_of_10 : decode cX12_of 10 = .ok (.getfield 17, 3) := dk_180 0 17 (dk_at dksX12_of_0 10 rfl rfl)
theorem dX12_of_13 : decode cX12_of 13 = .ok (.aload_n 1, 1) := dk_43 (dk_at dksX12_of_0 13 rfl rfl)
theorem dX12_of_14 : decode cX12_of 14 = .ok (.invokevirtual 20, 3) := dk_182 0 20 (dk_at dksX12_of_0 14 rfl rfl)
theorem dX12_of_17 : decode cX12_of 17 = .ok (.istore_n 3, 1) := dk_62 (dk_at dksX12_of_0 17 rfl rfl)
theorem dX12_of_18 : decode cX12_of 18 = .ok (.aload_n 0, 1) := dk_42 (dk_at dksX12_of_0 18 rfl rfl)
theorem dX12_of_19 : decode cX12_of 19 = .ok (.getfield 7, 3) := dk_180 0 7 (dk_at dksX12_of_0 19 rfl rfl)
theorem dX12_of_22 : decode cX12_of 22 = .ok (.tableswitch 213 37 62 #[142, 196, 213, 213, 213, 126, 118, 213, 122, 213, 130, 213, 213, 213, 213, 213, 213, 213, 213, 213, 213, 213, 213, 154, 182, 168], 118) := by decide +kernel
theorem dX12_of_140 : decode cX12_of 140 = .ok (.iload_n 2, 1) := dk_28 (dk_at dksX12_of_2 0 rfl rfl)
theorem dX12_of_141 : decode cX12_of 141 = .ok (.iload_n 3, 1) := dk_29 (dk_at dksX12_of_2 1 rfl rfl)
theorem dX12_of_142 : decode cX12_of 142 = .ok (.iadd, 1) := dk_96 (dk_at dksX12_of_2 2 rfl rfl)
theorem dX12_of_143 : decode cX12_of 143 = .ok (.ireturn, 1) := dk_172 (dk_at dksX12_of_2 3 rfl rfl)
theorem dX12_of_144 : decode cX12_of 144 = .ok (.iload_n 2, 1) := dk_28 (dk_at dksX12_of_2 4 rfl rfl)
theorem dX12_of_145 : decode cX12_of 145 = .ok (.iload_n 3, 1) := dk_29 (dk_at dksX12_of_2 5 rfl rfl)
theorem dX12_of_146 : decode cX12_of 146 = .ok (.isub, 1) := dk_100 (dk_at dksX12_of_2 6 rfl rfl)
theorem dX12_of_147 : decode cX12_of 147 = .ok (.ireturn, 1) := dk_172 (dk_at dksX12_of_2 7 rfl rfl)
theorem dX12_of_148 : decode cX12_of 148 = .ok (.iload_n 2, 1) := dk_28 (dk_at dksX12_of_2 8 rfl rfl)
theorem dX12_of_149 : decode cX12_of 149 = .ok (.iload_n 3, 1) := dk_29 (dk_at dksX12_of_2 9 rfl rfl)
theorem dX12_of_150 : decode cX12_of 150 = .ok (.imul, 1) := dk_104 (dk_at dksX12_of_2 10 rfl rfl)
theorem dX12_of_151 : decode cX12_of 151 = .ok (.ireturn, 1) := dk_172 (dk_at dksX12_of_2 11 rfl rfl)
theorem dX12_of_152 : decode cX12_of 152 = .ok (.iload_n 3, 1) := dk_29 (dk_at dksX12_of_2 12 rfl rfl)
theorem dX12_of_153 : decode cX12_of 153 = .ok (.ifCond .ne 7, 3) := dk_154 0 7 (dk_at dksX12_of_2 13 rfl rfl)
theorem dX12_of_156 : decode cX12_of 156 = .ok (.iconst 0, 1) := dk_3 (dk_at dksX12_of_2 16 rfl rfl)
theorem dX12_of_157 : decode cX12_of 157 = .ok (.goto 6, 3) := dk_167 0 6 (dk_at dksX12_of_2 17 rfl rfl)
theorem dX12_of_160 : decode cX12_of 160 = .ok (.iload_n 2, 1) := dk_28 (dk_at dksX12_of_2 20 rfl rfl)
theorem dX12_of_161 : decode cX12_of 161 = .ok (.iload_n 3, 1) := dk_29 (dk_at dksX12_of_2 21 rfl rfl)
theorem dX12_of_162 : decode cX12_of 162 = .ok (.idiv, 1) := dk_108 (dk_at dksX12_of_2 22 rfl rfl)
theorem dX12_of_163 : decode cX12_of 163 = .ok (.ireturn, 1) := dk_172 (dk_at dksX12_of_2 23 rfl rfl)
theorem dX12_of_164 : decode cX12_of 164 = .ok (.iload_n 3, 1) := dk_29 (dk_at dksX12_of_3 0 rfl rfl)
theorem dX12_of_165 : decode cX12_of 165 = .ok (.ifCond .ne 7, 3) := dk_154 0 7 (dk_at dksX12_of_3 1 rfl rfl)
theorem dX12_of_168 : decode cX12_of 168 = .ok (.iconst 0, 1) := dk_3 (dk_at dksX12_of_3 4 rfl rfl)
theorem dX12_of_169 : decode cX12_of 169 = .ok (.goto 6, 3) := dk_167 0 6 (dk_at dksX12_of_3 5 rfl rfl)
theorem dX12_of_172 : decode cX12_of 172 = .ok (.iload_n 2, 1) := dk_28 (dk_at dksX12_of_3 8 rfl rfl)
theorem dX12_of_173 : decode cX12_of 173 = .ok (.iload_n 3, 1) := dk_29 (dk_at dksX12_of_3 9 rfl rfl)
theorem dX12_of_174 : decode cX12_of 174 = .ok (.irem, 1) := dk_112 (dk_at dksX12_of_3 10 rfl rfl)
theorem dX12_of_175 : decode cX12_of 175 = .ok (.ireturn, 1) := dk_172 (dk_at dksX12_of_3 11 rfl rfl)
theorem dX12_of_176 : decode cX12_of 176 = .ok (.iload_n 2, 1) := dk_28 (dk_at dksX12_of_3 12 rfl rfl)
theorem dX12_of_177 : decode cX12_of 177 = .ok (.iload_n 3, 1) := dk_29 (dk_at dksX12_of_3 13 rfl rfl)
theorem dX12_of_178 : decode cX12_of 178 = .ok (.if_icmp .ge 7, 3) := dk_162 0 7 (dk_at dksX12_of_3 14 rfl rfl)
theorem dX12_of_181 : decode cX12_of 181 = .ok (.iconst 1, 1) := dk_4 (dk_at dksX12_of_3 17 rfl rfl)
theorem dX12_of_182 : decode cX12_of 182 = .ok (.goto 4, 3) := dk_167 0 4 (dk_at dksX12_of_3 18 rfl rfl)
theorem dX12_of_185 : decode cX12_of 185 = .ok (.iconst 0, 1) := dk_3 (dk_at dksX12_of_3 21 rfl rfl)
theorem dX12_of_186 : decode cX12_of 186 = .ok (.invokestatic 24, 3) := dk_184 0 24 (dk_at dksX12_of_4 0 rfl rfl)
theorem dX12_of_189 : decode cX12_of 189 = .ok (.ireturn, 1) := dk_172 (dk_at dksX12_of_4 3 rfl rfl)
theorem dX12_of_190 : decode cX12_of 190 = .ok (.iload_n 2, 1) := dk_28 (dk_at dksX12_of_4 4 rfl rfl)
theorem dX12_of_191 : decode cX12_of 191 = .ok (.iload_n 3, 1) := dk_29 (dk_at dksX12_of_4 5 rfl rfl)
theorem dX12_of_192 : decode cX12_of 192 = .ok (.if_icmp .le 7, 3) := dk_164 0 7 (dk_at dksX12_of_4 6 rfl rfl)
theorem dX12_of_195 : decode cX12_of 195 = .ok (.iconst 1, 1) := dk_4 (dk_at dksX12_of_4 9 rfl rfl)
theorem dX12_of_196 : decode cX12_of 196 = .ok (.goto 4, 3) := dk_167 0 4 (dk_at dksX12_of_4 10 rfl rfl)
theorem dX12_of_199 : decode cX12_of 199 = .ok (.iconst 0, 1) := dk_3 (dk_at dksX12_of_4 13 rfl rfl)
theorem dX12_of_200 : decode cX12_of 200 = .ok (.invokestatic 24, 3) := dk_184 0 24 (dk_at dksX12_of_4 14 rfl rfl)
theorem dX12_of_203 : decode cX12_of 203 = .ok (.ireturn, 1) := dk_172 (dk_at dksX12_of_4 17 rfl rfl)
theorem dX12_of_204 : decode cX12_of 204 = .ok (.iload_n 2, 1) := dk_28 (dk_at dksX12_of_4 18 rfl rfl)
theorem dX12_of_205 : decode cX12_of 205 = .ok (.iload_n 3, 1) := dk_29 (dk_at dksX12_of_4 19 rfl rfl)
theorem dX12_of_206 : decode cX12_of 206 = .ok (.if_icmp .ne 7, 3) := dk_160 0 7 (dk_at dksX12_of_4 20 rfl rfl)
theorem dX12_of_209 : decode cX12_of 209 = .ok (.iconst 1, 1) := dk_4 (dk_at dksX12_of_4 23 rfl rfl)
theorem dX12_of_210 : decode cX12_of 210 = .ok (.goto 4, 3) := dk_167 0 4 (dk_at dksX12_of_5 0 rfl rfl)
theorem dX12_of_213 : decode cX12_of 213 = .ok (.iconst 0, 1) := dk_3 (dk_at dksX12_of_5 3 rfl rfl)
theorem dX12_of_214 : decode cX12_of 214 = .ok (.invokestatic 24, 3) := dk_184 0 24 (dk_at dksX12_of_5 4 rfl rfl)
theorem dX12_of_217 : decode cX12_of 217 = .ok (.ireturn, 1) := dk_172 (dk_at dksX12_of_5 7 rfl rfl)
theorem dX12_of_218 : decode cX12_of 218 = .ok (.iload_n 2, 1) := dk_28 (dk_at dksX12_of_5 8 rfl rfl)
theorem dX12_of_219 : decode cX12_of 219 = .ok (.ifCond .eq 11, 3) := dk_153 0 11 (dk_at dksX12_of_5 9 rfl rfl)
theorem dX12_of_222 : decode cX12_of 222 = .ok (.iload_n 3, 1) := dk_29 (dk_at dksX12_of_5 12 rfl rfl)
theorem dX12_of_223 : decode cX12_of 223 = .ok (.ifCond .eq 7, 3) := dk_153 0 7 (dk_at dksX12_of_5 13 rfl rfl)
theorem dX12_of_226 : decode cX12_of 226 = .ok (.iconst 1, 1) := dk_4 (dk_at dksX12_of_5 16 rfl rfl)
theorem dX12_of_227 : decode cX12_of 227 = .ok (.goto 4, 3) := dk_167 0 4 (dk_at dksX12_of_5 17 rfl rfl)
theorem dX12_of_230 : decode cX12_of 230 = .ok (.iconst 0, 1) := dk_3 (dk_at dksX12_of_5 20 rfl rfl)
theorem dX12_of_231 : decode cX12_of 231 = .ok (.invokestatic 24, 3) := dk_184 0 24 (dk_at dksX12_of_5 21 rfl rfl)
theorem dX12_of_234 : decode cX12_of 234 = .ok (.ireturn, 1) := dk_172 (dk_at dksX12_of_6 0 rfl rfl)
theorem dX12_of_235 : decode cX12_of 235 = .ok (.iload_n 2, 1) := dk_28 (dk_at dksX12_of_6 1 rfl rfl)
theorem dX12_of_236 : decode cX12_of 236 = .ok (.ifCond .ne 7, 3) := dk_154 0 7 (dk_at dksX12_of_6 2 rfl rfl)
theorem dX12_of_239 : decode cX12_of 239 = .ok (.iload_n 3, 1) := dk_29 (dk_at dksX12_of_6 5 rfl rfl)
theorem dX12_of_240 : decode cX12_of 240 = .ok (.ifCond .eq 7, 3) := dk_153 0 7 (dk_at dksX12_of_6 6 rfl rfl)
theorem dX12_of_243 : decode cX12_of 243 = .ok (.iconst 1, 1) := dk_4 (dk_at dksX12_of_6 9 rfl rfl)
theorem dX12_of_244 : decode cX12_of 244 = .ok (.goto 4, 3) := dk_167 0 4 (dk_at dksX12_of_6 10 rfl rfl)
theorem dX12_of_247 : decode cX12_of 247 = .ok (.iconst 0, 1) := dk_3 (dk_at dksX12_of_6 13 rfl rfl)
theorem dX12_of_248 : decode cX12_of 248 = .ok (.invokestatic 24, 3) := dk_184 0 24 (dk_at dksX12_of_6 14 rfl rfl)
theorem dX12_of_251 : decode cX12_of 251 = .ok (.ireturn, 1) := dk_172 (dk_at dksX12_of_6 17 rfl rfl)
abbrev cX12_is : ByteArray := prog_18_method_2_code
def yX12_is : MethodName := ⟨RX12, "is", "(Z)I"⟩
def dkwX12_is_0 : List UInt8 := [26, 153, 0, 7, 4, 167, 0, 4, 3, 172]
abbrev dktX12_is_0 : List UInt8 := dkwX12_is_0 ++ []
theorem dksX12_is_0 : cX12_is.data.toList.drop 0 = dktX12_is_0 := by decide +kernel
theorem dX12_is_0 : decode cX12_is 0 = .ok (.iload_n 0, 1) := dk_26 (dk_at dksX12_is_0 0 rfl rfl)
theorem dX12_is_1 : decode cX12_is 1 = .ok (.ifCond .eq 7, 3) := dk_153 0 7 (dk_at dksX12_is_0 1 rfl rfl)
theorem dX12_is_4 : decode cX12_is 4 = .ok (.iconst 1, 1) := dk_4 (dk_at dksX12_is_0 4 rfl rfl)
theorem dX12_is_5 : decode cX12_is 5 = .ok (.goto 4, 3) := dk_167 0 4 (dk_at dksX12_is_0 5 rfl rfl)
theorem dX12_is_8 : decode cX12_is 8 = .ok (.iconst 0, 1) := dk_3 (dk_at dksX12_is_0 8 rfl rfl)
theorem dX12_is_9 : decode cX12_is 9 = .ok (.ireturn, 1) := dk_172 (dk_at dksX12_is_0 9 rfl rfl)
theorem q167 : (Jvm.Cond.initialized "TubBites$Two") ∈ lw_all := lw_g (lw_at lw_m1 23 rfl) rfl
theorem q716 : (Jvm.Cond.instantiable "TubBites$Two" (3 : Nat)) ∈ lw_all := lw_g (lw_at lw_m3 92 rfl) rfl
theorem q718 : (Jvm.Cond.instanceMethod ({ cls := "TubBites$Two", name := "<init>", desc := "(ILTubBites$Part;LTubBites$Part;)V" } : Jvm.MethodName)) ∈ lw_all := lw_g (lw_at lw_m3 94 rfl) rfl
theorem q719 : (Jvm.Cond.code ({ cls := "TubBites$Two", name := "<init>", desc := "(ILTubBites$Part;LTubBites$Part;)V" } : Jvm.MethodName) prog_18_method_1_code (4 : Nat) (Option.none : Option Jvm.ClassFile.FieldType)) ∈ lw_all := lw_g (lw_at lw_m3 95 rfl) rfl
theorem q720 : (Jvm.Cond.methodLinkNest "TubBites$Two" (1 : Nat) ({ cls := "TubBites$Part", name := "<init>", desc := "()V" } : Jvm.MethodName) "TubBites") ∈ lw_tbl := lw_at lw_m3 96 rfl
theorem q721 : (Jvm.Cond.fieldLink "TubBites$Two" (7 : Nat) "TubBites$Two" "sign" "I") ∈ lw_all := lw_g (lw_at lw_m3 97 rfl) rfl
theorem q722 : (Jvm.Cond.fieldLink "TubBites$Two" (13 : Nat) "TubBites$Two" "a" "LTubBites$Part;") ∈ lw_all := lw_g (lw_at lw_m3 98 rfl) rfl
theorem q723 : (Jvm.Cond.fieldLink "TubBites$Two" (17 : Nat) "TubBites$Two" "b" "LTubBites$Part;") ∈ lw_all := lw_g (lw_at lw_m3 99 rfl) rfl
theorem q724 : (Jvm.Cond.laysFinal "TubBites$Two" "TubBites$Two" "sign" "I") ∈ lw_all := lw_g (lw_at lw_m3 100 rfl) rfl
theorem q725 : (Jvm.Cond.soleField "TubBites$Two" "sign") ∈ lw_all := lw_g (lw_at lw_m3 101 rfl) rfl
theorem q726 : (Jvm.Cond.laysFinal "TubBites$Two" "TubBites$Two" "a" "LTubBites$Part;") ∈ lw_all := lw_g (lw_at lw_m3 102 rfl) rfl
theorem q727 : (Jvm.Cond.soleField "TubBites$Two" "a") ∈ lw_all := lw_g (lw_at lw_m3 103 rfl) rfl
theorem q728 : (Jvm.Cond.laysFinal "TubBites$Two" "TubBites$Two" "b" "LTubBites$Part;") ∈ lw_all := lw_g (lw_at lw_m3 104 rfl) rfl
theorem q729 : (Jvm.Cond.soleField "TubBites$Two" "b") ∈ lw_all := lw_g (lw_at lw_m3 105 rfl) rfl
theorem q730 : (Jvm.Cond.superclass "TubBites$Two" "TubBites$Part") ∈ lw_all := lw_g (lw_at lw_m3 106 rfl) rfl
theorem q793 : (Jvm.Cond.selects "TubBites$Two" ({ cls := "java/lang/Object", name := "getClass", desc := "()Ljava/lang/Class;" } : Jvm.MethodName) ({ cls := "java/lang/Object", name := "getClass", desc := "()Ljava/lang/Class;" } : Jvm.MethodName)) ∈ lw_all := lw_g (lw_at lw_m3 169 rfl) rfl
theorem q1120 : (Jvm.Cond.instanceMethod ({ cls := "TubBites$Two", name := "of", desc := "(LTubBites$Told;)I" } : Jvm.MethodName)) ∈ lw_all := lw_g (lw_at lw_m5 16 rfl) rfl
theorem q1121 : (Jvm.Cond.code ({ cls := "TubBites$Two", name := "of", desc := "(LTubBites$Told;)I" } : Jvm.MethodName) prog_18_method_3_code (4 : Nat) (Option.some Jvm.ClassFile.FieldType.int)) ∈ lw_all := lw_g (lw_at lw_m5 17 rfl) rfl
theorem q1122 : (Jvm.Cond.methodLink "TubBites$Two" (20 : Nat) ({ cls := "TubBites$Part", name := "of", desc := "(LTubBites$Told;)I" } : Jvm.MethodName)) ∈ lw_all := lw_g (lw_at lw_m5 18 rfl) rfl
theorem q1123 : (Jvm.Cond.methodLink "TubBites$Two" (24 : Nat) ({ cls := "TubBites$Two", name := "is", desc := "(Z)I" } : Jvm.MethodName)) ∈ lw_all := lw_g (lw_at lw_m5 19 rfl) rfl
theorem q1124 : (Jvm.Cond.static ({ cls := "TubBites$Two", name := "is", desc := "(Z)I" } : Jvm.MethodName)) ∈ lw_all := lw_g (lw_at lw_m5 20 rfl) rfl
theorem q1125 : (Jvm.Cond.code ({ cls := "TubBites$Two", name := "is", desc := "(Z)I" } : Jvm.MethodName) prog_18_method_2_code (1 : Nat) (Option.some Jvm.ClassFile.FieldType.int)) ∈ lw_all := lw_g (lw_at lw_m5 21 rfl) rfl
theorem q1127 : (Jvm.Cond.selects "TubBites$Two" ({ cls := "TubBites$Part", name := "of", desc := "(LTubBites$Told;)I" } : Jvm.MethodName) ({ cls := "TubBites$Two", name := "of", desc := "(LTubBites$Told;)I" } : Jvm.MethodName)) ∈ lw_all := lw_g (lw_at lw_m5 23 rfl) rfl
theorem q2378 : (Jvm.Cond.castable "TubBites$Two" "java/lang/Object") ∈ lw_tbl := lw_at lw_m10 74 rfl
theorem q2391 : (Jvm.Cond.castable "TubBites$Two" "TubBites$Part") ∈ lw_tbl := lw_at lw_m10 87 rfl
theorem in_X12 : ∀ w ∈ wsX120, w ∈ lw_all := lw_in wsX120 [724, 726, 728] (by decide +kernel) (by decide +kernel)

/-! TubBites$Apple -/
set_option maxRecDepth 100000
def RX13 : String := "TubBites$Apple"
def TX13 : u_T := fun k => match k with
  | 0 => ("TubBites$Apple", "name", "J", true)
  | 1 => ("TubBites$Apple", "firstX", "I", false)
  | 2 => ("TubBites$Apple", "firstY", "I", false)
  | 3 => ("TubBites$Apple", "firstSize", "I", false)
  | 4 => ("TubBites$Apple", "soft", "I", false)
  | 5 => ("TubBites$Apple", "coin", "I", false)
  | 6 => ("TubBites$Apple", "hasStalk", "Z", false)
  | 7 => ("TubBites$Apple", "x", "I", false)
  | 8 => ("TubBites$Apple", "y", "I", false)
  | 9 => ("TubBites$Apple", "by", "I", false)
  | 10 => ("TubBites$Apple", "missed", "I", false)
  | _ => ("TubBites$Apple", "size", "I", false)
def tyX13 : Nat → FieldType := fun k => match k with
  | 0 => .long
  | 1 => .int
  | 2 => .int
  | 3 => .int
  | 4 => .int
  | 5 => .int
  | 6 => .boolean
  | 7 => .int
  | 8 => .int
  | 9 => .int
  | 10 => .int
  | _ => .int
abbrev wsX130 : List Cond := u_ws RX13 TX13 12
theorem nmX13 : ∀ a, a < 12 → ∀ b, b < 12 → a ≠ b → (TX13 a).2.1 ≠ (TX13 b).2.1 := by decide +kernel
theorem tyX13_ok : ∀ k, k < 12 → parseFieldDescriptor (TX13 k).2.2.1 = some (tyX13 k) := by decide +kernel
abbrev cX13_init : ByteArray := prog_2_method_1_code
def yX13_init : MethodName := ⟨RX13, "<init>", "(J)V"⟩
def dkwX13_init_0 : List UInt8 := [42, 183, 0, 3, 42, 4, 181, 0, 9, 42, 2, 181, 0, 15, 42, 31, 181, 0, 18, 177]
abbrev dktX13_init_0 : List UInt8 := dkwX13_init_0 ++ []
theorem dksX13_init_0 : cX13_init.data.toList.drop 0 = dktX13_init_0 := by decide +kernel
theorem dX13_init_0 : decode cX13_init 0 = .ok (.aload_n 0, 1) := dk_42 (dk_at dksX13_init_0 0 rfl rfl)
theorem dX13_init_1 : decode cX13_init 1 = .ok (.invokespecial 3, 3) := dk_183 0 3 (dk_at dksX13_init_0 1 rfl rfl)
theorem dX13_init_4 : decode cX13_init 4 = .ok (.aload_n 0, 1) := dk_42 (dk_at dksX13_init_0 4 rfl rfl)
theorem dX13_init_5 : decode cX13_init 5 = .ok (.iconst 1, 1) := dk_4 (dk_at dksX13_init_0 5 rfl rfl)
theorem dX13_init_6 : decode cX13_init 6 = .ok (.putfield 9, 3) := dk_181 0 9 (dk_at dksX13_init_0 6 rfl rfl)
theorem dX13_init_9 : decode cX13_init 9 = .ok (.aload_n 0, 1) := dk_42 (dk_at dksX13_init_0 9 rfl rfl)
theorem dX13_init_10 : decode cX13_init 10 = .ok (.iconst (-1), 1) := dk_2 (dk_at dksX13_init_0 10 rfl rfl)
theorem dX13_init_11 : decode cX13_init 11 = .ok (.putfield 15, 3) := dk_181 0 15 (dk_at dksX13_init_0 11 rfl rfl)
theorem dX13_init_14 : decode cX13_init 14 = .ok (.aload_n 0, 1) := dk_42 (dk_at dksX13_init_0 14 rfl rfl)
theorem dX13_init_15 : decode cX13_init 15 = .ok (.lload_n 1, 1) := dk_31 (dk_at dksX13_init_0 15 rfl rfl)
theorem dX13_init_16 : decode cX13_init 16 = .ok (.putfield 18, 3) := dk_181 0 18 (dk_at dksX13_init_0 16 rfl rfl)
theorem dX13_init_19 : decode cX13_init 19 = .ok (.return_, 1) := dk_177 (dk_at dksX13_init_0 19 rfl rfl)
abbrev cX13_begin : ByteArray := prog_2_method_2_code
def yX13_begin : MethodName := ⟨RX13, "begin", "()V"⟩
def dkwX13_begin_1 : List UInt8 := [181, 0, 34, 42, 42, 180, 0, 37, 181, 0, 40, 177]
abbrev dktX13_begin_1 : List UInt8 := dkwX13_begin_1 ++ []
def dkwX13_begin_0 : List UInt8 := [42, 42, 180, 0, 22, 181, 0, 25, 42, 42, 180, 0, 28, 181, 0, 31, 42, 2, 181, 0, 15, 42, 3]
abbrev dktX13_begin_0 : List UInt8 := dkwX13_begin_0 ++ dktX13_begin_1
theorem dksX13_begin_0 : cX13_begin.data.toList.drop 0 = dktX13_begin_0 := by decide +kernel
theorem dksX13_begin_1 : cX13_begin.data.toList.drop 23 = dktX13_begin_1 := dk_seg dksX13_begin_0 23 rfl rfl
theorem dX13_begin_0 : decode cX13_begin 0 = .ok (.aload_n 0, 1) := dk_42 (dk_at dksX13_begin_0 0 rfl rfl)
theorem dX13_begin_1 : decode cX13_begin 1 = .ok (.aload_n 0, 1) := dk_42 (dk_at dksX13_begin_0 1 rfl rfl)
theorem dX13_begin_2 : decode cX13_begin 2 = .ok (.getfield 22, 3) := dk_180 0 22 (dk_at dksX13_begin_0 2 rfl rfl)
theorem dX13_begin_5 : decode cX13_begin 5 = .ok (.putfield 25, 3) := dk_181 0 25 (dk_at dksX13_begin_0 5 rfl rfl)
theorem dX13_begin_8 : decode cX13_begin 8 = .ok (.aload_n 0, 1) := dk_42 (dk_at dksX13_begin_0 8 rfl rfl)
theorem dX13_begin_9 : decode cX13_begin 9 = .ok (.aload_n 0, 1) := dk_42 (dk_at dksX13_begin_0 9 rfl rfl)
theorem dX13_begin_10 : decode cX13_begin 10 = .ok (.getfield 28, 3) := dk_180 0 28 (dk_at dksX13_begin_0 10 rfl rfl)
theorem dX13_begin_13 : decode cX13_begin 13 = .ok (.putfield 31, 3) := dk_181 0 31 (dk_at dksX13_begin_0 13 rfl rfl)
theorem dX13_begin_16 : decode cX13_begin 16 = .ok (.aload_n 0, 1) := dk_42 (dk_at dksX13_begin_0 16 rfl rfl)
theorem dX13_begin_17 : decode cX13_begin 17 = .ok (.iconst (-1), 1) := dk_2 (dk_at dksX13_begin_0 17 rfl rfl)
theorem dX13_begin_18 : decode cX13_begin 18 = .ok (.putfield 15, 3) := dk_181 0 15 (dk_at dksX13_begin_0 18 rfl rfl)
theorem dX13_begin_21 : decode cX13_begin 21 = .ok (.aload_n 0, 1) := dk_42 (dk_at dksX13_begin_0 21 rfl rfl)
theorem dX13_begin_22 : decode cX13_begin 22 = .ok (.iconst 0, 1) := dk_3 (dk_at dksX13_begin_0 22 rfl rfl)
theorem dX13_begin_23 : decode cX13_begin 23 = .ok (.putfield 34, 3) := dk_181 0 34 (dk_at dksX13_begin_1 0 rfl rfl)
theorem dX13_begin_26 : decode cX13_begin 26 = .ok (.aload_n 0, 1) := dk_42 (dk_at dksX13_begin_1 3 rfl rfl)
theorem dX13_begin_27 : decode cX13_begin 27 = .ok (.aload_n 0, 1) := dk_42 (dk_at dksX13_begin_1 4 rfl rfl)
theorem dX13_begin_28 : decode cX13_begin 28 = .ok (.getfield 37, 3) := dk_180 0 37 (dk_at dksX13_begin_1 5 rfl rfl)
theorem dX13_begin_31 : decode cX13_begin 31 = .ok (.putfield 40, 3) := dk_181 0 40 (dk_at dksX13_begin_1 8 rfl rfl)
theorem dX13_begin_34 : decode cX13_begin 34 = .ok (.return_, 1) := dk_177 (dk_at dksX13_begin_1 11 rfl rfl)
theorem q172 : (Jvm.Cond.initialized "TubBites$Apple") ∈ lw_all := lw_g (lw_at lw_m1 28 rfl) rfl
theorem q779 : (Jvm.Cond.selects "TubBites$Apple" ({ cls := "java/lang/Object", name := "getClass", desc := "()Ljava/lang/Class;" } : Jvm.MethodName) ({ cls := "java/lang/Object", name := "getClass", desc := "()Ljava/lang/Class;" } : Jvm.MethodName)) ∈ lw_all := lw_g (lw_at lw_m3 155 rfl) rfl
theorem q819 : (Jvm.Cond.instantiable "TubBites$Apple" (12 : Nat)) ∈ lw_all := lw_g (lw_at lw_m3 195 rfl) rfl
theorem q825 : (Jvm.Cond.instanceMethod ({ cls := "TubBites$Apple", name := "<init>", desc := "(J)V" } : Jvm.MethodName)) ∈ lw_all := lw_g (lw_at lw_m3 201 rfl) rfl
theorem q826 : (Jvm.Cond.code ({ cls := "TubBites$Apple", name := "<init>", desc := "(J)V" } : Jvm.MethodName) prog_2_method_1_code (3 : Nat) (Option.none : Option Jvm.ClassFile.FieldType)) ∈ lw_all := lw_g (lw_at lw_m3 202 rfl) rfl
theorem q827 : (Jvm.Cond.methodLink "TubBites$Apple" (3 : Nat) ({ cls := "java/lang/Object", name := "<init>", desc := "()V" } : Jvm.MethodName)) ∈ lw_all := lw_g (lw_at lw_m3 203 rfl) rfl
theorem q828 : (Jvm.Cond.fieldLink "TubBites$Apple" (18 : Nat) "TubBites$Apple" "name" "J") ∈ lw_all := lw_g (lw_at lw_m3 204 rfl) rfl
theorem q830 : (Jvm.Cond.fieldLink "TubBites$Apple" (22 : Nat) "TubBites$Apple" "firstX" "I") ∈ lw_all := lw_g (lw_at lw_m3 206 rfl) rfl
theorem q832 : (Jvm.Cond.fieldLink "TubBites$Apple" (28 : Nat) "TubBites$Apple" "firstY" "I") ∈ lw_all := lw_g (lw_at lw_m3 208 rfl) rfl
theorem q834 : (Jvm.Cond.fieldLink "TubBites$Apple" (37 : Nat) "TubBites$Apple" "firstSize" "I") ∈ lw_all := lw_g (lw_at lw_m3 210 rfl) rfl
theorem q839 : (Jvm.Cond.fieldLink "TubBites$Apple" (9 : Nat) "TubBites$Apple" "coin" "I") ∈ lw_all := lw_g (lw_at lw_m3 215 rfl) rfl
theorem q845 : (Jvm.Cond.fieldLink "TubBites$Apple" (25 : Nat) "TubBites$Apple" "x" "I") ∈ lw_all := lw_g (lw_at lw_m3 221 rfl) rfl
theorem q851 : (Jvm.Cond.fieldLink "TubBites$Apple" (31 : Nat) "TubBites$Apple" "y" "I") ∈ lw_all := lw_g (lw_at lw_m3 227 rfl) rfl
theorem q857 : (Jvm.Cond.fieldLink "TubBites$Apple" (15 : Nat) "TubBites$Apple" "by" "I") ∈ lw_all := lw_g (lw_at lw_m3 233 rfl) rfl
theorem q861 : (Jvm.Cond.fieldLink "TubBites$Apple" (34 : Nat) "TubBites$Apple" "missed" "I") ∈ lw_all := lw_g (lw_at lw_m3 237 rfl) rfl
theorem q866 : (Jvm.Cond.fieldLink "TubBites$Apple" (40 : Nat) "TubBites$Apple" "size" "I") ∈ lw_all := lw_g (lw_at lw_m4 2 rfl) rfl
theorem q869 : (Jvm.Cond.laysFinal "TubBites$Apple" "TubBites$Apple" "name" "J") ∈ lw_all := lw_g (lw_at lw_m4 5 rfl) rfl
theorem q870 : (Jvm.Cond.soleField "TubBites$Apple" "name") ∈ lw_all := lw_g (lw_at lw_m4 6 rfl) rfl
theorem q871 : (Jvm.Cond.lays "TubBites$Apple" "TubBites$Apple" "firstX" "I") ∈ lw_all := lw_g (lw_at lw_m4 7 rfl) rfl
theorem q872 : (Jvm.Cond.soleField "TubBites$Apple" "firstX") ∈ lw_all := lw_g (lw_at lw_m4 8 rfl) rfl
theorem q873 : (Jvm.Cond.lays "TubBites$Apple" "TubBites$Apple" "firstY" "I") ∈ lw_all := lw_g (lw_at lw_m4 9 rfl) rfl
theorem q874 : (Jvm.Cond.soleField "TubBites$Apple" "firstY") ∈ lw_all := lw_g (lw_at lw_m4 10 rfl) rfl
theorem q875 : (Jvm.Cond.lays "TubBites$Apple" "TubBites$Apple" "firstSize" "I") ∈ lw_all := lw_g (lw_at lw_m4 11 rfl) rfl
theorem q876 : (Jvm.Cond.soleField "TubBites$Apple" "firstSize") ∈ lw_all := lw_g (lw_at lw_m4 12 rfl) rfl
theorem q877 : (Jvm.Cond.lays "TubBites$Apple" "TubBites$Apple" "soft" "I") ∈ lw_all := lw_g (lw_at lw_m4 13 rfl) rfl
theorem q878 : (Jvm.Cond.soleField "TubBites$Apple" "soft") ∈ lw_all := lw_g (lw_at lw_m4 14 rfl) rfl
theorem q879 : (Jvm.Cond.lays "TubBites$Apple" "TubBites$Apple" "coin" "I") ∈ lw_all := lw_g (lw_at lw_m4 15 rfl) rfl
theorem q880 : (Jvm.Cond.soleField "TubBites$Apple" "coin") ∈ lw_all := lw_g (lw_at lw_m4 16 rfl) rfl
theorem q881 : (Jvm.Cond.lays "TubBites$Apple" "TubBites$Apple" "hasStalk" "Z") ∈ lw_all := lw_g (lw_at lw_m4 17 rfl) rfl
theorem q882 : (Jvm.Cond.soleField "TubBites$Apple" "hasStalk") ∈ lw_all := lw_g (lw_at lw_m4 18 rfl) rfl
theorem q883 : (Jvm.Cond.lays "TubBites$Apple" "TubBites$Apple" "x" "I") ∈ lw_all := lw_g (lw_at lw_m4 19 rfl) rfl
theorem q884 : (Jvm.Cond.soleField "TubBites$Apple" "x") ∈ lw_all := lw_g (lw_at lw_m4 20 rfl) rfl
theorem q885 : (Jvm.Cond.lays "TubBites$Apple" "TubBites$Apple" "y" "I") ∈ lw_all := lw_g (lw_at lw_m4 21 rfl) rfl
theorem q886 : (Jvm.Cond.soleField "TubBites$Apple" "y") ∈ lw_all := lw_g (lw_at lw_m4 22 rfl) rfl
theorem q887 : (Jvm.Cond.lays "TubBites$Apple" "TubBites$Apple" "by" "I") ∈ lw_all := lw_g (lw_at lw_m4 23 rfl) rfl
theorem q888 : (Jvm.Cond.soleField "TubBites$Apple" "by") ∈ lw_all := lw_g (lw_at lw_m4 24 rfl) rfl
theorem q889 : (Jvm.Cond.lays "TubBites$Apple" "TubBites$Apple" "missed" "I") ∈ lw_all := lw_g (lw_at lw_m4 25 rfl) rfl
theorem q890 : (Jvm.Cond.soleField "TubBites$Apple" "missed") ∈ lw_all := lw_g (lw_at lw_m4 26 rfl) rfl
theorem q891 : (Jvm.Cond.lays "TubBites$Apple" "TubBites$Apple" "size" "I") ∈ lw_all := lw_g (lw_at lw_m4 27 rfl) rfl
theorem q892 : (Jvm.Cond.soleField "TubBites$Apple" "size") ∈ lw_all := lw_g (lw_at lw_m4 28 rfl) rfl
theorem q893 : (Jvm.Cond.superclass "TubBites$Apple" "java/lang/Object") ∈ lw_all := lw_g (lw_at lw_m4 29 rfl) rfl
theorem q986 : (Jvm.Cond.instanceMethod ({ cls := "TubBites$Apple", name := "begin", desc := "()V" } : Jvm.MethodName)) ∈ lw_all := lw_g (lw_at lw_m4 122 rfl) rfl
theorem q987 : (Jvm.Cond.selects "TubBites$Apple" ({ cls := "TubBites$Apple", name := "begin", desc := "()V" } : Jvm.MethodName) ({ cls := "TubBites$Apple", name := "begin", desc := "()V" } : Jvm.MethodName)) ∈ lw_all := lw_g (lw_at lw_m4 123 rfl) rfl
theorem q988 : (Jvm.Cond.code ({ cls := "TubBites$Apple", name := "begin", desc := "()V" } : Jvm.MethodName) prog_2_method_2_code (1 : Nat) (Option.none : Option Jvm.ClassFile.FieldType)) ∈ lw_all := lw_g (lw_at lw_m4 124 rfl) rfl
theorem q2379 : (Jvm.Cond.castable "TubBites$Apple" "java/lang/Object") ∈ lw_tbl := lw_at lw_m10 75 rfl
theorem in_X13 : ∀ w ∈ wsX130, w ∈ lw_all := lw_in wsX130 [869, 871, 873, 875, 877, 879, 881, 883, 885, 887, 889, 891] (by decide +kernel) (by decide +kernel)

/-! TubBites$Bobber -/
set_option maxRecDepth 100000
def RX14 : String := "TubBites$Bobber"
def TX14 : u_T := fun k => match k with
  | 0 => ("TubBites$Bobber", "name", "J", true)
  | 1 => ("TubBites$Bobber", "x", "I", false)
  | 2 => ("TubBites$Bobber", "y", "I", false)
  | 3 => ("TubBites$Bobber", "reach", "I", false)
  | 4 => ("TubBites$Bobber", "allBreath", "I", false)
  | 5 => ("TubBites$Bobber", "mouth", "I", false)
  | 6 => ("TubBites$Bobber", "rule", "I", false)
  | 7 => ("TubBites$Bobber", "breath", "I", false)
  | 8 => ("TubBites$Bobber", "got", "I", false)
  | 9 => ("TubBites$Bobber", "seconds", "I", false)
  | _ => ("TubBites$Bobber", "records", "[I", true)
def tyX14 : Nat → FieldType := fun k => match k with
  | 0 => .long
  | 1 => .int
  | 2 => .int
  | 3 => .int
  | 4 => .int
  | 5 => .int
  | 6 => .int
  | 7 => .int
  | 8 => .int
  | 9 => .int
  | _ => .array .int
abbrev wsX140 : List Cond := u_ws RX14 TX14 11
theorem nmX14 : ∀ a, a < 11 → ∀ b, b < 11 → a ≠ b → (TX14 a).2.1 ≠ (TX14 b).2.1 := by decide +kernel
theorem tyX14_ok : ∀ k, k < 11 → parseFieldDescriptor (TX14 k).2.2.1 = some (tyX14 k) := by decide +kernel
abbrev cX14_init : ByteArray := prog_3_method_1_code
def yX14_init : MethodName := ⟨RX14, "<init>", "(J)V"⟩
def dkwX14_init_0 : List UInt8 := [42, 183, 0, 3, 42, 16, 15, 188, 10, 181, 0, 9, 42, 31, 181, 0, 15, 177]
abbrev dktX14_init_0 : List UInt8 := dkwX14_init_0 ++ []
theorem dksX14_init_0 : cX14_init.data.toList.drop 0 = dktX14_init_0 := by decide +kernel
theorem dX14_init_0 : decode cX14_init 0 = .ok (.aload_n 0, 1) := dk_42 (dk_at dksX14_init_0 0 rfl rfl)
theorem dX14_init_1 : decode cX14_init 1 = .ok (.invokespecial 3, 3) := dk_183 0 3 (dk_at dksX14_init_0 1 rfl rfl)
theorem dX14_init_4 : decode cX14_init 4 = .ok (.aload_n 0, 1) := dk_42 (dk_at dksX14_init_0 4 rfl rfl)
theorem dX14_init_5 : decode cX14_init 5 = .ok (.bipush 15, 2) := dk_16 15 (dk_at dksX14_init_0 5 rfl rfl)
theorem dX14_init_7 : decode cX14_init 7 = .ok (.newarray .int, 2) := dk_188_10 (dk_at dksX14_init_0 7 rfl rfl)
theorem dX14_init_9 : decode cX14_init 9 = .ok (.putfield 9, 3) := dk_181 0 9 (dk_at dksX14_init_0 9 rfl rfl)
theorem dX14_init_12 : decode cX14_init 12 = .ok (.aload_n 0, 1) := dk_42 (dk_at dksX14_init_0 12 rfl rfl)
theorem dX14_init_13 : decode cX14_init 13 = .ok (.lload_n 1, 1) := dk_31 (dk_at dksX14_init_0 13 rfl rfl)
theorem dX14_init_14 : decode cX14_init 14 = .ok (.putfield 15, 3) := dk_181 0 15 (dk_at dksX14_init_0 14 rfl rfl)
theorem dX14_init_17 : decode cX14_init 17 = .ok (.return_, 1) := dk_177 (dk_at dksX14_init_0 17 rfl rfl)
abbrev cX14_begin : ByteArray := prog_3_method_2_code
def yX14_begin : MethodName := ⟨RX14, "begin", "()V"⟩
def dkwX14_begin_1 : List UInt8 := [180, 0, 9, 190, 162, 0, 16, 42, 180, 0, 9, 27, 3, 79, 132, 1, 1, 167, 255, 237, 177]
abbrev dktX14_begin_1 : List UInt8 := dkwX14_begin_1 ++ []
def dkwX14_begin_0 : List UInt8 := [42, 42, 180, 0, 19, 181, 0, 23, 42, 3, 181, 0, 26, 42, 3, 181, 0, 29, 3, 60, 27, 42]
abbrev dktX14_begin_0 : List UInt8 := dkwX14_begin_0 ++ dktX14_begin_1
theorem dksX14_begin_0 : cX14_begin.data.toList.drop 0 = dktX14_begin_0 := by decide +kernel
theorem dksX14_begin_1 : cX14_begin.data.toList.drop 22 = dktX14_begin_1 := dk_seg dksX14_begin_0 22 rfl rfl
theorem dX14_begin_0 : decode cX14_begin 0 = .ok (.aload_n 0, 1) := dk_42 (dk_at dksX14_begin_0 0 rfl rfl)
theorem dX14_begin_1 : decode cX14_begin 1 = .ok (.aload_n 0, 1) := dk_42 (dk_at dksX14_begin_0 1 rfl rfl)
theorem dX14_begin_2 : decode cX14_begin 2 = .ok (.getfield 19, 3) := dk_180 0 19 (dk_at dksX14_begin_0 2 rfl rfl)
theorem dX14_begin_5 : decode cX14_begin 5 = .ok (.putfield 23, 3) := dk_181 0 23 (dk_at dksX14_begin_0 5 rfl rfl)
theorem dX14_begin_8 : decode cX14_begin 8 = .ok (.aload_n 0, 1) := dk_42 (dk_at dksX14_begin_0 8 rfl rfl)
theorem dX14_begin_9 : decode cX14_begin 9 = .ok (.iconst 0, 1) := dk_3 (dk_at dksX14_begin_0 9 rfl rfl)
theorem dX14_begin_10 : decode cX14_begin 10 = .ok (.putfield 26, 3) := dk_181 0 26 (dk_at dksX14_begin_0 10 rfl rfl)
theorem dX14_begin_13 : decode cX14_begin 13 = .ok (.aload_n 0, 1) := dk_42 (dk_at dksX14_begin_0 13 rfl rfl)
theorem dX14_begin_14 : decode cX14_begin 14 = .ok (.iconst 0, 1) := dk_3 (dk_at dksX14_begin_0 14 rfl rfl)
theorem dX14_begin_15 : decode cX14_begin 15 = .ok (.putfield 29, 3) := dk_181 0 29 (dk_at dksX14_begin_0 15 rfl rfl)
theorem dX14_begin_18 : decode cX14_begin 18 = .ok (.iconst 0, 1) := dk_3 (dk_at dksX14_begin_0 18 rfl rfl)
theorem dX14_begin_19 : decode cX14_begin 19 = .ok (.istore_n 1, 1) := dk_60 (dk_at dksX14_begin_0 19 rfl rfl)
theorem dX14_begin_20 : decode cX14_begin 20 = .ok (.iload_n 1, 1) := dk_27 (dk_at dksX14_begin_0 20 rfl rfl)
theorem dX14_begin_21 : decode cX14_begin 21 = .ok (.aload_n 0, 1) := dk_42 (dk_at dksX14_begin_0 21 rfl rfl)
theorem dX14_begin_22 : decode cX14_begin 22 = .ok (.getfield 9, 3) := dk_180 0 9 (dk_at dksX14_begin_1 0 rfl rfl)
theorem dX14_begin_25 : decode cX14_begin 25 = .ok (.arraylength, 1) := dk_190 (dk_at dksX14_begin_1 3 rfl rfl)
theorem dX14_begin_26 : decode cX14_begin 26 = .ok (.if_icmp .ge 16, 3) := dk_162 0 16 (dk_at dksX14_begin_1 4 rfl rfl)
theorem dX14_begin_29 : decode cX14_begin 29 = .ok (.aload_n 0, 1) := dk_42 (dk_at dksX14_begin_1 7 rfl rfl)
theorem dX14_begin_30 : decode cX14_begin 30 = .ok (.getfield 9, 3) := dk_180 0 9 (dk_at dksX14_begin_1 8 rfl rfl)
theorem dX14_begin_33 : decode cX14_begin 33 = .ok (.iload_n 1, 1) := dk_27 (dk_at dksX14_begin_1 11 rfl rfl)
theorem dX14_begin_34 : decode cX14_begin 34 = .ok (.iconst 0, 1) := dk_3 (dk_at dksX14_begin_1 12 rfl rfl)
theorem dX14_begin_35 : decode cX14_begin 35 = .ok (.iastore, 1) := dk_79 (dk_at dksX14_begin_1 13 rfl rfl)
theorem dX14_begin_36 : decode cX14_begin 36 = .ok (.iinc 1 1, 3) := dk_132 1 1 (dk_at dksX14_begin_1 14 rfl rfl)
theorem dX14_begin_39 : decode cX14_begin 39 = .ok (.goto (-19), 3) := dk_167 255 237 (dk_at dksX14_begin_1 17 rfl rfl)
theorem dX14_begin_42 : decode cX14_begin 42 = .ok (.return_, 1) := dk_177 (dk_at dksX14_begin_1 20 rfl rfl)
abbrev cX14_far : ByteArray := prog_3_method_3_code
def yX14_far : MethodName := ⟨RX14, "far", "(LTubBites$Apple;)I"⟩
def dkwX14_far_1 : List UInt8 := [184, 0, 48, 172]
abbrev dktX14_far_1 : List UInt8 := dkwX14_far_1 ++ []
def dkwX14_far_0 : List UInt8 := [43, 180, 0, 32, 42, 180, 0, 37, 100, 184, 0, 38, 43, 180, 0, 44, 42, 180, 0, 47, 100, 184, 0, 38]
abbrev dktX14_far_0 : List UInt8 := dkwX14_far_0 ++ dktX14_far_1
theorem dksX14_far_0 : cX14_far.data.toList.drop 0 = dktX14_far_0 := by decide +kernel
theorem dksX14_far_1 : cX14_far.data.toList.drop 24 = dktX14_far_1 := dk_seg dksX14_far_0 24 rfl rfl
theorem dX14_far_0 : decode cX14_far 0 = .ok (.aload_n 1, 1) := dk_43 (dk_at dksX14_far_0 0 rfl rfl)
theorem dX14_far_1 : decode cX14_far 1 = .ok (.getfield 32, 3) := dk_180 0 32 (dk_at dksX14_far_0 1 rfl rfl)
theorem dX14_far_4 : decode cX14_far 4 = .ok (.aload_n 0, 1) := dk_42 (dk_at dksX14_far_0 4 rfl rfl)
theorem dX14_far_5 : decode cX14_far 5 = .ok (.getfield 37, 3) := dk_180 0 37 (dk_at dksX14_far_0 5 rfl rfl)
theorem dX14_far_8 : decode cX14_far 8 = .ok (.isub, 1) := dk_100 (dk_at dksX14_far_0 8 rfl rfl)
theorem dX14_far_9 : decode cX14_far 9 = .ok (.invokestatic 38, 3) := dk_184 0 38 (dk_at dksX14_far_0 9 rfl rfl)
theorem dX14_far_12 : decode cX14_far 12 = .ok (.aload_n 1, 1) := dk_43 (dk_at dksX14_far_0 12 rfl rfl)
theorem dX14_far_13 : decode cX14_far 13 = .ok (.getfield 44, 3) := dk_180 0 44 (dk_at dksX14_far_0 13 rfl rfl)
theorem dX14_far_16 : decode cX14_far 16 = .ok (.aload_n 0, 1) := dk_42 (dk_at dksX14_far_0 16 rfl rfl)
theorem dX14_far_17 : decode cX14_far 17 = .ok (.getfield 47, 3) := dk_180 0 47 (dk_at dksX14_far_0 17 rfl rfl)
theorem dX14_far_20 : decode cX14_far 20 = .ok (.isub, 1) := dk_100 (dk_at dksX14_far_0 20 rfl rfl)
theorem dX14_far_21 : decode cX14_far 21 = .ok (.invokestatic 38, 3) := dk_184 0 38 (dk_at dksX14_far_0 21 rfl rfl)
theorem dX14_far_24 : decode cX14_far 24 = .ok (.invokestatic 48, 3) := dk_184 0 48 (dk_at dksX14_far_1 0 rfl rfl)
theorem dX14_far_27 : decode cX14_far 27 = .ok (.ireturn, 1) := dk_172 (dk_at dksX14_far_1 3 rfl rfl)
theorem q173 : (Jvm.Cond.initialized "TubBites$Bobber") ∈ lw_all := lw_g (lw_at lw_m1 29 rfl) rfl
theorem q780 : (Jvm.Cond.selects "TubBites$Bobber" ({ cls := "java/lang/Object", name := "getClass", desc := "()Ljava/lang/Class;" } : Jvm.MethodName) ({ cls := "java/lang/Object", name := "getClass", desc := "()Ljava/lang/Class;" } : Jvm.MethodName)) ∈ lw_all := lw_g (lw_at lw_m3 156 rfl) rfl
theorem q846 : (Jvm.Cond.fieldLinkNest "TubBites$Bobber" (32 : Nat) "TubBites$Apple" "x" "I" "TubBites") ∈ lw_tbl := lw_at lw_m3 222 rfl
theorem q852 : (Jvm.Cond.fieldLinkNest "TubBites$Bobber" (44 : Nat) "TubBites$Apple" "y" "I" "TubBites") ∈ lw_tbl := lw_at lw_m3 228 rfl
theorem q904 : (Jvm.Cond.instantiable "TubBites$Bobber" (11 : Nat)) ∈ lw_all := lw_g (lw_at lw_m4 40 rfl) rfl
theorem q910 : (Jvm.Cond.instanceMethod ({ cls := "TubBites$Bobber", name := "<init>", desc := "(J)V" } : Jvm.MethodName)) ∈ lw_all := lw_g (lw_at lw_m4 46 rfl) rfl
theorem q911 : (Jvm.Cond.code ({ cls := "TubBites$Bobber", name := "<init>", desc := "(J)V" } : Jvm.MethodName) prog_3_method_1_code (3 : Nat) (Option.none : Option Jvm.ClassFile.FieldType)) ∈ lw_all := lw_g (lw_at lw_m4 47 rfl) rfl
theorem q912 : (Jvm.Cond.methodLink "TubBites$Bobber" (3 : Nat) ({ cls := "java/lang/Object", name := "<init>", desc := "()V" } : Jvm.MethodName)) ∈ lw_all := lw_g (lw_at lw_m4 48 rfl) rfl
theorem q913 : (Jvm.Cond.fieldLink "TubBites$Bobber" (15 : Nat) "TubBites$Bobber" "name" "J") ∈ lw_all := lw_g (lw_at lw_m4 49 rfl) rfl
theorem q915 : (Jvm.Cond.fieldLink "TubBites$Bobber" (37 : Nat) "TubBites$Bobber" "x" "I") ∈ lw_all := lw_g (lw_at lw_m4 51 rfl) rfl
theorem q919 : (Jvm.Cond.fieldLink "TubBites$Bobber" (47 : Nat) "TubBites$Bobber" "y" "I") ∈ lw_all := lw_g (lw_at lw_m4 55 rfl) rfl
theorem q925 : (Jvm.Cond.fieldLink "TubBites$Bobber" (19 : Nat) "TubBites$Bobber" "allBreath" "I") ∈ lw_all := lw_g (lw_at lw_m4 61 rfl) rfl
theorem q934 : (Jvm.Cond.fieldLink "TubBites$Bobber" (23 : Nat) "TubBites$Bobber" "breath" "I") ∈ lw_all := lw_g (lw_at lw_m4 70 rfl) rfl
theorem q937 : (Jvm.Cond.fieldLink "TubBites$Bobber" (26 : Nat) "TubBites$Bobber" "got" "I") ∈ lw_all := lw_g (lw_at lw_m4 73 rfl) rfl
theorem q940 : (Jvm.Cond.fieldLink "TubBites$Bobber" (29 : Nat) "TubBites$Bobber" "seconds" "I") ∈ lw_all := lw_g (lw_at lw_m4 76 rfl) rfl
theorem q943 : (Jvm.Cond.fieldLink "TubBites$Bobber" (9 : Nat) "TubBites$Bobber" "records" "[I") ∈ lw_all := lw_g (lw_at lw_m4 79 rfl) rfl
theorem q946 : (Jvm.Cond.laysFinal "TubBites$Bobber" "TubBites$Bobber" "name" "J") ∈ lw_all := lw_g (lw_at lw_m4 82 rfl) rfl
theorem q947 : (Jvm.Cond.soleField "TubBites$Bobber" "name") ∈ lw_all := lw_g (lw_at lw_m4 83 rfl) rfl
theorem q948 : (Jvm.Cond.lays "TubBites$Bobber" "TubBites$Bobber" "x" "I") ∈ lw_all := lw_g (lw_at lw_m4 84 rfl) rfl
theorem q949 : (Jvm.Cond.soleField "TubBites$Bobber" "x") ∈ lw_all := lw_g (lw_at lw_m4 85 rfl) rfl
theorem q950 : (Jvm.Cond.lays "TubBites$Bobber" "TubBites$Bobber" "y" "I") ∈ lw_all := lw_g (lw_at lw_m4 86 rfl) rfl
theorem q951 : (Jvm.Cond.soleField "TubBites$Bobber" "y") ∈ lw_all := lw_g (lw_at lw_m4 87 rfl) rfl
theorem q952 : (Jvm.Cond.lays "TubBites$Bobber" "TubBites$Bobber" "reach" "I") ∈ lw_all := lw_g (lw_at lw_m4 88 rfl) rfl
theorem q953 : (Jvm.Cond.soleField "TubBites$Bobber" "reach") ∈ lw_all := lw_g (lw_at lw_m4 89 rfl) rfl
theorem q954 : (Jvm.Cond.lays "TubBites$Bobber" "TubBites$Bobber" "allBreath" "I") ∈ lw_all := lw_g (lw_at lw_m4 90 rfl) rfl
theorem q955 : (Jvm.Cond.soleField "TubBites$Bobber" "allBreath") ∈ lw_all := lw_g (lw_at lw_m4 91 rfl) rfl
theorem q956 : (Jvm.Cond.lays "TubBites$Bobber" "TubBites$Bobber" "mouth" "I") ∈ lw_all := lw_g (lw_at lw_m4 92 rfl) rfl
theorem q957 : (Jvm.Cond.soleField "TubBites$Bobber" "mouth") ∈ lw_all := lw_g (lw_at lw_m4 93 rfl) rfl
theorem q958 : (Jvm.Cond.lays "TubBites$Bobber" "TubBites$Bobber" "rule" "I") ∈ lw_all := lw_g (lw_at lw_m4 94 rfl) rfl
theorem q959 : (Jvm.Cond.soleField "TubBites$Bobber" "rule") ∈ lw_all := lw_g (lw_at lw_m4 95 rfl) rfl
theorem q960 : (Jvm.Cond.lays "TubBites$Bobber" "TubBites$Bobber" "breath" "I") ∈ lw_all := lw_g (lw_at lw_m4 96 rfl) rfl
theorem q961 : (Jvm.Cond.soleField "TubBites$Bobber" "breath") ∈ lw_all := lw_g (lw_at lw_m4 97 rfl) rfl
theorem q962 : (Jvm.Cond.lays "TubBites$Bobber" "TubBites$Bobber" "got" "I") ∈ lw_all := lw_g (lw_at lw_m4 98 rfl) rfl
theorem q963 : (Jvm.Cond.soleField "TubBites$Bobber" "got") ∈ lw_all := lw_g (lw_at lw_m4 99 rfl) rfl
theorem q964 : (Jvm.Cond.lays "TubBites$Bobber" "TubBites$Bobber" "seconds" "I") ∈ lw_all := lw_g (lw_at lw_m4 100 rfl) rfl
theorem q965 : (Jvm.Cond.soleField "TubBites$Bobber" "seconds") ∈ lw_all := lw_g (lw_at lw_m4 101 rfl) rfl
theorem q966 : (Jvm.Cond.laysFinal "TubBites$Bobber" "TubBites$Bobber" "records" "[I") ∈ lw_all := lw_g (lw_at lw_m4 102 rfl) rfl
theorem q967 : (Jvm.Cond.soleField "TubBites$Bobber" "records") ∈ lw_all := lw_g (lw_at lw_m4 103 rfl) rfl
theorem q968 : (Jvm.Cond.superclass "TubBites$Bobber" "java/lang/Object") ∈ lw_all := lw_g (lw_at lw_m4 104 rfl) rfl
theorem q991 : (Jvm.Cond.instanceMethod ({ cls := "TubBites$Bobber", name := "begin", desc := "()V" } : Jvm.MethodName)) ∈ lw_all := lw_g (lw_at lw_m4 127 rfl) rfl
theorem q992 : (Jvm.Cond.selects "TubBites$Bobber" ({ cls := "TubBites$Bobber", name := "begin", desc := "()V" } : Jvm.MethodName) ({ cls := "TubBites$Bobber", name := "begin", desc := "()V" } : Jvm.MethodName)) ∈ lw_all := lw_g (lw_at lw_m4 128 rfl) rfl
theorem q993 : (Jvm.Cond.code ({ cls := "TubBites$Bobber", name := "begin", desc := "()V" } : Jvm.MethodName) prog_3_method_2_code (2 : Nat) (Option.none : Option Jvm.ClassFile.FieldType)) ∈ lw_all := lw_g (lw_at lw_m4 129 rfl) rfl
theorem q1034 : (Jvm.Cond.instanceMethod ({ cls := "TubBites$Bobber", name := "far", desc := "(LTubBites$Apple;)I" } : Jvm.MethodName)) ∈ lw_all := lw_g (lw_at lw_m4 170 rfl) rfl
theorem q1035 : (Jvm.Cond.selects "TubBites$Bobber" ({ cls := "TubBites$Bobber", name := "far", desc := "(LTubBites$Apple;)I" } : Jvm.MethodName) ({ cls := "TubBites$Bobber", name := "far", desc := "(LTubBites$Apple;)I" } : Jvm.MethodName)) ∈ lw_all := lw_g (lw_at lw_m4 171 rfl) rfl
theorem q1036 : (Jvm.Cond.code ({ cls := "TubBites$Bobber", name := "far", desc := "(LTubBites$Apple;)I" } : Jvm.MethodName) prog_3_method_3_code (2 : Nat) (Option.some Jvm.ClassFile.FieldType.int)) ∈ lw_all := lw_g (lw_at lw_m4 172 rfl) rfl
theorem q1037 : (Jvm.Cond.methodLink "TubBites$Bobber" (38 : Nat) ({ cls := "java/lang/Math", name := "abs", desc := "(I)I" } : Jvm.MethodName)) ∈ lw_all := lw_g (lw_at lw_m4 173 rfl) rfl
theorem q1040 : (Jvm.Cond.methodLink "TubBites$Bobber" (48 : Nat) ({ cls := "java/lang/Math", name := "max", desc := "(II)I" } : Jvm.MethodName)) ∈ lw_all := lw_g (lw_at lw_m4 176 rfl) rfl
theorem q2380 : (Jvm.Cond.castable "TubBites$Bobber" "java/lang/Object") ∈ lw_tbl := lw_at lw_m10 76 rfl
theorem in_X14 : ∀ w ∈ wsX140, w ∈ lw_all := lw_in wsX140 [946, 948, 950, 952, 954, 956, 958, 960, 962, 964, 966] (by decide +kernel) (by decide +kernel)

/-! TubBites$Pick -/
set_option maxRecDepth 100000
def RX15 : String := "TubBites$Pick"
def TX15 : u_T := fun k => match k with
  | 0 => ("TubBites$Pick", "bobber", "I", true)
  | 1 => ("TubBites$Pick", "set", "I", true)
  | 2 => ("TubBites$Pick", "taken", "I", true)
  | 3 => ("TubBites$Pick", "told", "I", true)
  | _ => ("TubBites$Pick", "untold", "I", false)
def tyX15 : Nat → FieldType := fun k => match k with
  | 0 => .int
  | 1 => .int
  | 2 => .int
  | 3 => .int
  | _ => .int
abbrev wsX150 : List Cond := u_ws RX15 TX15 5
theorem nmX15 : ∀ a, a < 5 → ∀ b, b < 5 → a ≠ b → (TX15 a).2.1 ≠ (TX15 b).2.1 := by decide +kernel
theorem tyX15_ok : ∀ k, k < 5 → parseFieldDescriptor (TX15 k).2.2.1 = some (tyX15 k) := by decide +kernel
abbrev cX15_init : ByteArray := prog_12_method_1_code
def yX15_init : MethodName := ⟨RX15, "<init>", "(IIII)V"⟩
def dkwX15_init_1 : List UInt8 := [42, 21, 4, 181, 0, 24, 177]
abbrev dktX15_init_1 : List UInt8 := dkwX15_init_1 ++ []
def dkwX15_init_0 : List UInt8 := [42, 183, 0, 3, 42, 2, 181, 0, 9, 42, 27, 181, 0, 15, 42, 28, 181, 0, 18, 42, 29, 181, 0, 21]
abbrev dktX15_init_0 : List UInt8 := dkwX15_init_0 ++ dktX15_init_1
theorem dksX15_init_0 : cX15_init.data.toList.drop 0 = dktX15_init_0 := by decide +kernel
theorem dksX15_init_1 : cX15_init.data.toList.drop 24 = dktX15_init_1 := dk_seg dksX15_init_0 24 rfl rfl
theorem dX15_init_0 : decode cX15_init 0 = .ok (.aload_n 0, 1) := dk_42 (dk_at dksX15_init_0 0 rfl rfl)
theorem dX15_init_1 : decode cX15_init 1 = .ok (.invokespecial 3, 3) := dk_183 0 3 (dk_at dksX15_init_0 1 rfl rfl)
theorem dX15_init_4 : decode cX15_init 4 = .ok (.aload_n 0, 1) := dk_42 (dk_at dksX15_init_0 4 rfl rfl)
theorem dX15_init_5 : decode cX15_init 5 = .ok (.iconst (-1), 1) := dk_2 (dk_at dksX15_init_0 5 rfl rfl)
theorem dX15_init_6 : decode cX15_init 6 = .ok (.putfield 9, 3) := dk_181 0 9 (dk_at dksX15_init_0 6 rfl rfl)
theorem dX15_init_9 : decode cX15_init 9 = .ok (.aload_n 0, 1) := dk_42 (dk_at dksX15_init_0 9 rfl rfl)
theorem dX15_init_10 : decode cX15_init 10 = .ok (.iload_n 1, 1) := dk_27 (dk_at dksX15_init_0 10 rfl rfl)
theorem dX15_init_11 : decode cX15_init 11 = .ok (.putfield 15, 3) := dk_181 0 15 (dk_at dksX15_init_0 11 rfl rfl)
theorem dX15_init_14 : decode cX15_init 14 = .ok (.aload_n 0, 1) := dk_42 (dk_at dksX15_init_0 14 rfl rfl)
theorem dX15_init_15 : decode cX15_init 15 = .ok (.iload_n 2, 1) := dk_28 (dk_at dksX15_init_0 15 rfl rfl)
theorem dX15_init_16 : decode cX15_init 16 = .ok (.putfield 18, 3) := dk_181 0 18 (dk_at dksX15_init_0 16 rfl rfl)
theorem dX15_init_19 : decode cX15_init 19 = .ok (.aload_n 0, 1) := dk_42 (dk_at dksX15_init_0 19 rfl rfl)
theorem dX15_init_20 : decode cX15_init 20 = .ok (.iload_n 3, 1) := dk_29 (dk_at dksX15_init_0 20 rfl rfl)
theorem dX15_init_21 : decode cX15_init 21 = .ok (.putfield 21, 3) := dk_181 0 21 (dk_at dksX15_init_0 21 rfl rfl)
theorem dX15_init_24 : decode cX15_init 24 = .ok (.aload_n 0, 1) := dk_42 (dk_at dksX15_init_1 0 rfl rfl)
theorem dX15_init_25 : decode cX15_init 25 = .ok (.iload 4, 2) := dk_21 4 (dk_at dksX15_init_1 1 rfl rfl)
theorem dX15_init_27 : decode cX15_init 27 = .ok (.putfield 24, 3) := dk_181 0 24 (dk_at dksX15_init_1 3 rfl rfl)
theorem dX15_init_30 : decode cX15_init 30 = .ok (.return_, 1) := dk_177 (dk_at dksX15_init_1 6 rfl rfl)
abbrev cX15_counts : ByteArray := prog_12_method_2_code
def yX15_counts : MethodName := ⟨RX15, "counts", "(I)Z"⟩
def dkwX15_counts_1 : List UInt8 := [167, 0, 4, 3, 172]
abbrev dktX15_counts_1 : List UInt8 := dkwX15_counts_1 ++ []
def dkwX15_counts_0 : List UInt8 := [42, 180, 0, 24, 27, 163, 0, 22, 42, 180, 0, 9, 155, 0, 11, 42, 180, 0, 9, 27, 164, 0, 7, 4]
abbrev dktX15_counts_0 : List UInt8 := dkwX15_counts_0 ++ dktX15_counts_1
theorem dksX15_counts_0 : cX15_counts.data.toList.drop 0 = dktX15_counts_0 := by decide +kernel
theorem dksX15_counts_1 : cX15_counts.data.toList.drop 24 = dktX15_counts_1 := dk_seg dksX15_counts_0 24 rfl rfl
theorem dX15_counts_0 : decode cX15_counts 0 = .ok (.aload_n 0, 1) := dk_42 (dk_at dksX15_counts_0 0 rfl rfl)
theorem dX15_counts_1 : decode cX15_counts 1 = .ok (.getfield 24, 3) := dk_180 0 24 (dk_at dksX15_counts_0 1 rfl rfl)
theorem dX15_counts_4 : decode cX15_counts 4 = .ok (.iload_n 1, 1) := dk_27 (dk_at dksX15_counts_0 4 rfl rfl)
theorem dX15_counts_5 : decode cX15_counts 5 = .ok (.if_icmp .gt 22, 3) := dk_163 0 22 (dk_at dksX15_counts_0 5 rfl rfl)
theorem dX15_counts_8 : decode cX15_counts 8 = .ok (.aload_n 0, 1) := dk_42 (dk_at dksX15_counts_0 8 rfl rfl)
theorem dX15_counts_9 : decode cX15_counts 9 = .ok (.getfield 9, 3) := dk_180 0 9 (dk_at dksX15_counts_0 9 rfl rfl)
theorem dX15_counts_12 : decode cX15_counts 12 = .ok (.ifCond .lt 11, 3) := dk_155 0 11 (dk_at dksX15_counts_0 12 rfl rfl)
theorem dX15_counts_15 : decode cX15_counts 15 = .ok (.aload_n 0, 1) := dk_42 (dk_at dksX15_counts_0 15 rfl rfl)
theorem dX15_counts_16 : decode cX15_counts 16 = .ok (.getfield 9, 3) := dk_180 0 9 (dk_at dksX15_counts_0 16 rfl rfl)
theorem dX15_counts_19 : decode cX15_counts 19 = .ok (.iload_n 1, 1) := dk_27 (dk_at dksX15_counts_0 19 rfl rfl)
theorem dX15_counts_20 : decode cX15_counts 20 = .ok (.if_icmp .le 7, 3) := dk_164 0 7 (dk_at dksX15_counts_0 20 rfl rfl)
theorem dX15_counts_23 : decode cX15_counts 23 = .ok (.iconst 1, 1) := dk_4 (dk_at dksX15_counts_0 23 rfl rfl)
theorem dX15_counts_24 : decode cX15_counts 24 = .ok (.goto 4, 3) := dk_167 0 4 (dk_at dksX15_counts_1 0 rfl rfl)
theorem dX15_counts_27 : decode cX15_counts 27 = .ok (.iconst 0, 1) := dk_3 (dk_at dksX15_counts_1 3 rfl rfl)
theorem dX15_counts_28 : decode cX15_counts 28 = .ok (.ireturn, 1) := dk_172 (dk_at dksX15_counts_1 4 rfl rfl)
theorem q175 : (Jvm.Cond.initialized "TubBites$Pick") ∈ lw_all := lw_g (lw_at lw_m1 31 rfl) rfl
theorem q788 : (Jvm.Cond.selects "TubBites$Pick" ({ cls := "java/lang/Object", name := "getClass", desc := "()Ljava/lang/Class;" } : Jvm.MethodName) ({ cls := "java/lang/Object", name := "getClass", desc := "()Ljava/lang/Class;" } : Jvm.MethodName)) ∈ lw_all := lw_g (lw_at lw_m3 164 rfl) rfl
theorem q1427 : (Jvm.Cond.instantiable "TubBites$Pick" (5 : Nat)) ∈ lw_all := lw_g (lw_at lw_m6 83 rfl) rfl
theorem q1429 : (Jvm.Cond.instanceMethod ({ cls := "TubBites$Pick", name := "<init>", desc := "(IIII)V" } : Jvm.MethodName)) ∈ lw_all := lw_g (lw_at lw_m6 85 rfl) rfl
theorem q1430 : (Jvm.Cond.code ({ cls := "TubBites$Pick", name := "<init>", desc := "(IIII)V" } : Jvm.MethodName) prog_12_method_1_code (5 : Nat) (Option.none : Option Jvm.ClassFile.FieldType)) ∈ lw_all := lw_g (lw_at lw_m6 86 rfl) rfl
theorem q1431 : (Jvm.Cond.methodLink "TubBites$Pick" (3 : Nat) ({ cls := "java/lang/Object", name := "<init>", desc := "()V" } : Jvm.MethodName)) ∈ lw_all := lw_g (lw_at lw_m6 87 rfl) rfl
theorem q1432 : (Jvm.Cond.fieldLink "TubBites$Pick" (15 : Nat) "TubBites$Pick" "bobber" "I") ∈ lw_all := lw_g (lw_at lw_m6 88 rfl) rfl
theorem q1434 : (Jvm.Cond.fieldLink "TubBites$Pick" (18 : Nat) "TubBites$Pick" "set" "I") ∈ lw_all := lw_g (lw_at lw_m6 90 rfl) rfl
theorem q1436 : (Jvm.Cond.fieldLink "TubBites$Pick" (21 : Nat) "TubBites$Pick" "taken" "I") ∈ lw_all := lw_g (lw_at lw_m6 92 rfl) rfl
theorem q1438 : (Jvm.Cond.fieldLink "TubBites$Pick" (24 : Nat) "TubBites$Pick" "told" "I") ∈ lw_all := lw_g (lw_at lw_m6 94 rfl) rfl
theorem q1439 : (Jvm.Cond.fieldLink "TubBites$Pick" (9 : Nat) "TubBites$Pick" "untold" "I") ∈ lw_all := lw_g (lw_at lw_m6 95 rfl) rfl
theorem q1441 : (Jvm.Cond.laysFinal "TubBites$Pick" "TubBites$Pick" "bobber" "I") ∈ lw_all := lw_g (lw_at lw_m6 97 rfl) rfl
theorem q1442 : (Jvm.Cond.soleField "TubBites$Pick" "bobber") ∈ lw_all := lw_g (lw_at lw_m6 98 rfl) rfl
theorem q1443 : (Jvm.Cond.laysFinal "TubBites$Pick" "TubBites$Pick" "set" "I") ∈ lw_all := lw_g (lw_at lw_m6 99 rfl) rfl
theorem q1444 : (Jvm.Cond.soleField "TubBites$Pick" "set") ∈ lw_all := lw_g (lw_at lw_m6 100 rfl) rfl
theorem q1445 : (Jvm.Cond.laysFinal "TubBites$Pick" "TubBites$Pick" "taken" "I") ∈ lw_all := lw_g (lw_at lw_m6 101 rfl) rfl
theorem q1446 : (Jvm.Cond.soleField "TubBites$Pick" "taken") ∈ lw_all := lw_g (lw_at lw_m6 102 rfl) rfl
theorem q1447 : (Jvm.Cond.laysFinal "TubBites$Pick" "TubBites$Pick" "told" "I") ∈ lw_all := lw_g (lw_at lw_m6 103 rfl) rfl
theorem q1448 : (Jvm.Cond.soleField "TubBites$Pick" "told") ∈ lw_all := lw_g (lw_at lw_m6 104 rfl) rfl
theorem q1449 : (Jvm.Cond.lays "TubBites$Pick" "TubBites$Pick" "untold" "I") ∈ lw_all := lw_g (lw_at lw_m6 105 rfl) rfl
theorem q1450 : (Jvm.Cond.soleField "TubBites$Pick" "untold") ∈ lw_all := lw_g (lw_at lw_m6 106 rfl) rfl
theorem q1451 : (Jvm.Cond.superclass "TubBites$Pick" "java/lang/Object") ∈ lw_all := lw_g (lw_at lw_m6 107 rfl) rfl
theorem q1471 : (Jvm.Cond.instanceMethod ({ cls := "TubBites$Pick", name := "counts", desc := "(I)Z" } : Jvm.MethodName)) ∈ lw_all := lw_g (lw_at lw_m6 127 rfl) rfl
theorem q1472 : (Jvm.Cond.selects "TubBites$Pick" ({ cls := "TubBites$Pick", name := "counts", desc := "(I)Z" } : Jvm.MethodName) ({ cls := "TubBites$Pick", name := "counts", desc := "(I)Z" } : Jvm.MethodName)) ∈ lw_all := lw_g (lw_at lw_m6 128 rfl) rfl
theorem q1473 : (Jvm.Cond.code ({ cls := "TubBites$Pick", name := "counts", desc := "(I)Z" } : Jvm.MethodName) prog_12_method_2_code (2 : Nat) (Option.some Jvm.ClassFile.FieldType.boolean)) ∈ lw_all := lw_g (lw_at lw_m6 129 rfl) rfl
theorem q2386 : (Jvm.Cond.castable "TubBites$Pick" "java/lang/Object") ∈ lw_tbl := lw_at lw_m10 82 rfl
theorem in_X15 : ∀ w ∈ wsX150, w ∈ lw_all := lw_in wsX150 [1441, 1443, 1445, 1447, 1449] (by decide +kernel) (by decide +kernel)

/-! TubBites$Free -/
set_option maxRecDepth 100000
def RX16 : String := "TubBites$Free"
abbrev cX16_breath : ByteArray := prog_4_method_4_code
def yX16_breath : MethodName := ⟨RX16, "breath", "()I"⟩
theorem dX16_breath_0 : decode cX16_breath 0 = .ok (.iconst 0, 1) := by decide +kernel
theorem dX16_breath_1 : decode cX16_breath 1 = .ok (.ireturn, 1) := by decide +kernel
abbrev cX16_seconds : ByteArray := prog_4_method_3_code
def yX16_seconds : MethodName := ⟨RX16, "seconds", "()I"⟩
theorem dX16_seconds_0 : decode cX16_seconds 0 = .ok (.iconst 1, 1) := by decide +kernel
theorem dX16_seconds_1 : decode cX16_seconds 1 = .ok (.ireturn, 1) := by decide +kernel
abbrev cX16_missed : ByteArray := prog_4_method_5_code
def yX16_missed : MethodName := ⟨RX16, "missed", "(LTubBites$Water;LTubBites$Bobber;LTubBites$Apple;)V"⟩
def dkwX16_missed_1 : List UInt8 := [45, 182, 0, 46, 177]
abbrev dktX16_missed_1 : List UInt8 := dkwX16_missed_1 ++ []
def dkwX16_missed_0 : List UInt8 := [42, 43, 44, 45, 183, 0, 37, 42, 43, 44, 45, 182, 0, 41, 45, 180, 0, 34, 2, 160, 0, 9, 43, 44]
abbrev dktX16_missed_0 : List UInt8 := dkwX16_missed_0 ++ dktX16_missed_1
theorem dksX16_missed_0 : cX16_missed.data.toList.drop 0 = dktX16_missed_0 := by decide +kernel
theorem dksX16_missed_1 : cX16_missed.data.toList.drop 24 = dktX16_missed_1 := dk_seg dksX16_missed_0 24 rfl rfl
theorem dX16_missed_0 : decode cX16_missed 0 = .ok (.aload_n 0, 1) := dk_42 (dk_at dksX16_missed_0 0 rfl rfl)
theorem dX16_missed_1 : decode cX16_missed 1 = .ok (.aload_n 1, 1) := dk_43 (dk_at dksX16_missed_0 1 rfl rfl)
theorem dX16_missed_2 : decode cX16_missed 2 = .ok (.aload_n 2, 1) := dk_44 (dk_at dksX16_missed_0 2 rfl rfl)
theorem dX16_missed_3 : decode cX16_missed 3 = .ok (.aload_n 3, 1) := dk_45 (dk_at dksX16_missed_0 3 rfl rfl)
theorem dX16_missed_4 : decode cX16_missed 4 = .ok (.invokespecial 37, 3) := dk_183 0 37 (dk_at dksX16_missed_0 4 rfl rfl)
theorem dX16_missed_7 : decode cX16_missed 7 = .ok (.aload_n 0, 1) := dk_42 (dk_at dksX16_missed_0 7 rfl rfl)
theorem dX16_missed_8 : decode cX16_missed 8 = .ok (.aload_n 1, 1) := dk_43 (dk_at dksX16_missed_0 8 rfl rfl)
theorem dX16_missed_9 : decode cX16_missed 9 = .ok (.aload_n 2, 1) := dk_44 (dk_at dksX16_missed_0 9 rfl rfl)
theorem dX16_missed_10 : decode cX16_missed 10 = .ok (.aload_n 3, 1) := dk_45 (dk_at dksX16_missed_0 10 rfl rfl)
theorem dX16_missed_11 : decode cX16_missed 11 = .ok (.invokevirtual 41, 3) := dk_182 0 41 (dk_at dksX16_missed_0 11 rfl rfl)
theorem dX16_missed_14 : decode cX16_missed 14 = .ok (.aload_n 3, 1) := dk_45 (dk_at dksX16_missed_0 14 rfl rfl)
theorem dX16_missed_15 : decode cX16_missed 15 = .ok (.getfield 34, 3) := dk_180 0 34 (dk_at dksX16_missed_0 15 rfl rfl)
theorem dX16_missed_18 : decode cX16_missed 18 = .ok (.iconst (-1), 1) := dk_2 (dk_at dksX16_missed_0 18 rfl rfl)
theorem dX16_missed_19 : decode cX16_missed 19 = .ok (.if_icmp .ne 9, 3) := dk_160 0 9 (dk_at dksX16_missed_0 19 rfl rfl)
theorem dX16_missed_22 : decode cX16_missed 22 = .ok (.aload_n 1, 1) := dk_43 (dk_at dksX16_missed_0 22 rfl rfl)
theorem dX16_missed_23 : decode cX16_missed 23 = .ok (.aload_n 2, 1) := dk_44 (dk_at dksX16_missed_0 23 rfl rfl)
theorem dX16_missed_24 : decode cX16_missed 24 = .ok (.aload_n 3, 1) := dk_45 (dk_at dksX16_missed_1 0 rfl rfl)
theorem dX16_missed_25 : decode cX16_missed 25 = .ok (.invokevirtual 46, 3) := dk_182 0 46 (dk_at dksX16_missed_1 1 rfl rfl)
theorem dX16_missed_28 : decode cX16_missed 28 = .ok (.return_, 1) := dk_177 (dk_at dksX16_missed_1 4 rfl rfl)
abbrev cX16_piece : ByteArray := prog_4_method_2_code
def yX16_piece : MethodName := ⟨RX16, "piece", "(LTubBites$Water;LTubBites$Bobber;LTubBites$Apple;)V"⟩
def dkwX16_piece_1 : List UInt8 := [100, 184, 0, 28, 181, 0, 20, 45, 180, 0, 20, 154, 0, 9, 45, 16, 9, 181, 0, 34, 177]
abbrev dktX16_piece_1 : List UInt8 := dkwX16_piece_1 ++ []
def dkwX16_piece_0 : List UInt8 := [45, 180, 0, 9, 43, 180, 0, 15, 162, 0, 4, 177, 45, 3, 45, 180, 0, 20, 44, 180, 0, 23, 100, 4]
abbrev dktX16_piece_0 : List UInt8 := dkwX16_piece_0 ++ dktX16_piece_1
theorem dksX16_piece_0 : cX16_piece.data.toList.drop 0 = dktX16_piece_0 := by decide +kernel
theorem dksX16_piece_1 : cX16_piece.data.toList.drop 24 = dktX16_piece_1 := dk_seg dksX16_piece_0 24 rfl rfl
theorem dX16_piece_0 : decode cX16_piece 0 = .ok (.aload_n 3, 1) := dk_45 (dk_at dksX16_piece_0 0 rfl rfl)
theorem dX16_piece_1 : decode cX16_piece 1 = .ok (.getfield 9, 3) := dk_180 0 9 (dk_at dksX16_piece_0 1 rfl rfl)
theorem dX16_piece_4 : decode cX16_piece 4 = .ok (.aload_n 1, 1) := dk_43 (dk_at dksX16_piece_0 4 rfl rfl)
theorem dX16_piece_5 : decode cX16_piece 5 = .ok (.getfield 15, 3) := dk_180 0 15 (dk_at dksX16_piece_0 5 rfl rfl)
theorem dX16_piece_8 : decode cX16_piece 8 = .ok (.if_icmp .ge 4, 3) := dk_162 0 4 (dk_at dksX16_piece_0 8 rfl rfl)
theorem dX16_piece_11 : decode cX16_piece 11 = .ok (.return_, 1) := dk_177 (dk_at dksX16_piece_0 11 rfl rfl)
theorem dX16_piece_12 : decode cX16_piece 12 = .ok (.aload_n 3, 1) := dk_45 (dk_at dksX16_piece_0 12 rfl rfl)
theorem dX16_piece_13 : decode cX16_piece 13 = .ok (.iconst 0, 1) := dk_3 (dk_at dksX16_piece_0 13 rfl rfl)
theorem dX16_piece_14 : decode cX16_piece 14 = .ok (.aload_n 3, 1) := dk_45 (dk_at dksX16_piece_0 14 rfl rfl)
theorem dX16_piece_15 : decode cX16_piece 15 = .ok (.getfield 20, 3) := dk_180 0 20 (dk_at dksX16_piece_0 15 rfl rfl)
theorem dX16_piece_18 : decode cX16_piece 18 = .ok (.aload_n 2, 1) := dk_44 (dk_at dksX16_piece_0 18 rfl rfl)
theorem dX16_piece_19 : decode cX16_piece 19 = .ok (.getfield 23, 3) := dk_180 0 23 (dk_at dksX16_piece_0 19 rfl rfl)
theorem dX16_piece_22 : decode cX16_piece 22 = .ok (.isub, 1) := dk_100 (dk_at dksX16_piece_0 22 rfl rfl)
theorem dX16_piece_23 : decode cX16_piece 23 = .ok (.iconst 1, 1) := dk_4 (dk_at dksX16_piece_0 23 rfl rfl)
theorem dX16_piece_24 : decode cX16_piece 24 = .ok (.isub, 1) := dk_100 (dk_at dksX16_piece_1 0 rfl rfl)
theorem dX16_piece_25 : decode cX16_piece 25 = .ok (.invokestatic 28, 3) := dk_184 0 28 (dk_at dksX16_piece_1 1 rfl rfl)
theorem dX16_piece_28 : decode cX16_piece 28 = .ok (.putfield 20, 3) := dk_181 0 20 (dk_at dksX16_piece_1 4 rfl rfl)
theorem dX16_piece_31 : decode cX16_piece 31 = .ok (.aload_n 3, 1) := dk_45 (dk_at dksX16_piece_1 7 rfl rfl)
theorem dX16_piece_32 : decode cX16_piece 32 = .ok (.getfield 20, 3) := dk_180 0 20 (dk_at dksX16_piece_1 8 rfl rfl)
theorem dX16_piece_35 : decode cX16_piece 35 = .ok (.ifCond .ne 9, 3) := dk_154 0 9 (dk_at dksX16_piece_1 11 rfl rfl)
theorem dX16_piece_38 : decode cX16_piece 38 = .ok (.aload_n 3, 1) := dk_45 (dk_at dksX16_piece_1 14 rfl rfl)
theorem dX16_piece_39 : decode cX16_piece 39 = .ok (.bipush 9, 2) := dk_16 9 (dk_at dksX16_piece_1 15 rfl rfl)
theorem dX16_piece_41 : decode cX16_piece 41 = .ok (.putfield 34, 3) := dk_181 0 34 (dk_at dksX16_piece_1 17 rfl rfl)
theorem dX16_piece_44 : decode cX16_piece 44 = .ok (.return_, 1) := dk_177 (dk_at dksX16_piece_1 20 rfl rfl)
theorem q244 : (Jvm.Cond.fieldLinkNest "TubBites$Free" (15 : Nat) "TubBites$Water" "bite" "I" "TubBites") ∈ lw_tbl := lw_at lw_m1 100 rfl
theorem q781 : (Jvm.Cond.selects "TubBites$Free" ({ cls := "java/lang/Object", name := "getClass", desc := "()Ljava/lang/Class;" } : Jvm.MethodName) ({ cls := "java/lang/Object", name := "getClass", desc := "()Ljava/lang/Class;" } : Jvm.MethodName)) ∈ lw_all := lw_g (lw_at lw_m3 157 rfl) rfl
theorem q836 : (Jvm.Cond.fieldLinkNest "TubBites$Free" (9 : Nat) "TubBites$Apple" "soft" "I" "TubBites") ∈ lw_tbl := lw_at lw_m3 212 rfl
theorem q858 : (Jvm.Cond.fieldLinkNest "TubBites$Free" (34 : Nat) "TubBites$Apple" "by" "I" "TubBites") ∈ lw_tbl := lw_at lw_m3 234 rfl
theorem q865 : (Jvm.Cond.fieldLinkNest "TubBites$Free" (20 : Nat) "TubBites$Apple" "size" "I" "TubBites") ∈ lw_tbl := lw_at lw_m4 1 rfl
theorem q929 : (Jvm.Cond.fieldLinkNest "TubBites$Free" (23 : Nat) "TubBites$Bobber" "mouth" "I" "TubBites") ∈ lw_tbl := lw_at lw_m4 65 rfl
theorem q1046 : (Jvm.Cond.selects "TubBites$Free" ({ cls := "TubBites$Try", name := "breath", desc := "()I" } : Jvm.MethodName) ({ cls := "TubBites$Free", name := "breath", desc := "()I" } : Jvm.MethodName)) ∈ lw_all := lw_g (lw_at lw_m4 182 rfl) rfl
theorem q1047 : (Jvm.Cond.instanceMethod ({ cls := "TubBites$Free", name := "breath", desc := "()I" } : Jvm.MethodName)) ∈ lw_all := lw_g (lw_at lw_m4 183 rfl) rfl
theorem q1048 : (Jvm.Cond.code ({ cls := "TubBites$Free", name := "breath", desc := "()I" } : Jvm.MethodName) prog_4_method_4_code (1 : Nat) (Option.some Jvm.ClassFile.FieldType.int)) ∈ lw_all := lw_g (lw_at lw_m4 184 rfl) rfl
theorem q1062 : (Jvm.Cond.selects "TubBites$Free" ({ cls := "TubBites$Try", name := "suits", desc := "(LTubBites$Water;LTubBites$Bobber;LTubBites$Apple;)Z" } : Jvm.MethodName) ({ cls := "TubBites$Try", name := "suits", desc := "(LTubBites$Water;LTubBites$Bobber;LTubBites$Apple;)Z" } : Jvm.MethodName)) ∈ lw_all := lw_g (lw_at lw_m4 198 rfl) rfl
theorem q1191 : (Jvm.Cond.selects "TubBites$Free" ({ cls := "TubBites$Try", name := "seconds", desc := "()I" } : Jvm.MethodName) ({ cls := "TubBites$Free", name := "seconds", desc := "()I" } : Jvm.MethodName)) ∈ lw_all := lw_g (lw_at lw_m5 87 rfl) rfl
theorem q1192 : (Jvm.Cond.instanceMethod ({ cls := "TubBites$Free", name := "seconds", desc := "()I" } : Jvm.MethodName)) ∈ lw_all := lw_g (lw_at lw_m5 88 rfl) rfl
theorem q1193 : (Jvm.Cond.code ({ cls := "TubBites$Free", name := "seconds", desc := "()I" } : Jvm.MethodName) prog_4_method_3_code (1 : Nat) (Option.some Jvm.ClassFile.FieldType.int)) ∈ lw_all := lw_g (lw_at lw_m5 89 rfl) rfl
theorem q1209 : (Jvm.Cond.selects "TubBites$Free" ({ cls := "TubBites$Try", name := "missed", desc := "(LTubBites$Water;LTubBites$Bobber;LTubBites$Apple;)V" } : Jvm.MethodName) ({ cls := "TubBites$Free", name := "missed", desc := "(LTubBites$Water;LTubBites$Bobber;LTubBites$Apple;)V" } : Jvm.MethodName)) ∈ lw_all := lw_g (lw_at lw_m5 105 rfl) rfl
theorem q1210 : (Jvm.Cond.instanceMethod ({ cls := "TubBites$Free", name := "missed", desc := "(LTubBites$Water;LTubBites$Bobber;LTubBites$Apple;)V" } : Jvm.MethodName)) ∈ lw_all := lw_g (lw_at lw_m5 106 rfl) rfl
theorem q1211 : (Jvm.Cond.code ({ cls := "TubBites$Free", name := "missed", desc := "(LTubBites$Water;LTubBites$Bobber;LTubBites$Apple;)V" } : Jvm.MethodName) prog_4_method_5_code (4 : Nat) (Option.none : Option Jvm.ClassFile.FieldType)) ∈ lw_all := lw_g (lw_at lw_m5 107 rfl) rfl
theorem q1212 : (Jvm.Cond.methodLink "TubBites$Free" (37 : Nat) ({ cls := "TubBites$Try", name := "missed", desc := "(LTubBites$Water;LTubBites$Bobber;LTubBites$Apple;)V" } : Jvm.MethodName)) ∈ lw_all := lw_g (lw_at lw_m5 108 rfl) rfl
theorem q1213 : (Jvm.Cond.superclass "TubBites$Free" "TubBites$Try") ∈ lw_all := lw_g (lw_at lw_m5 109 rfl) rfl
theorem q1215 : (Jvm.Cond.methodLink "TubBites$Free" (41 : Nat) ({ cls := "TubBites$Free", name := "piece", desc := "(LTubBites$Water;LTubBites$Bobber;LTubBites$Apple;)V" } : Jvm.MethodName)) ∈ lw_all := lw_g (lw_at lw_m5 111 rfl) rfl
theorem q1216 : (Jvm.Cond.instanceMethod ({ cls := "TubBites$Free", name := "piece", desc := "(LTubBites$Water;LTubBites$Bobber;LTubBites$Apple;)V" } : Jvm.MethodName)) ∈ lw_all := lw_g (lw_at lw_m5 112 rfl) rfl
theorem q1217 : (Jvm.Cond.selects "TubBites$Free" ({ cls := "TubBites$Free", name := "piece", desc := "(LTubBites$Water;LTubBites$Bobber;LTubBites$Apple;)V" } : Jvm.MethodName) ({ cls := "TubBites$Free", name := "piece", desc := "(LTubBites$Water;LTubBites$Bobber;LTubBites$Apple;)V" } : Jvm.MethodName)) ∈ lw_all := lw_g (lw_at lw_m5 113 rfl) rfl
theorem q1218 : (Jvm.Cond.sameMethod "TubBites$Free" "TubBites$Free" "piece" "(LTubBites$Water;LTubBites$Bobber;LTubBites$Apple;)V") ∈ lw_all := lw_g (lw_at lw_m5 114 rfl) rfl
theorem q1222 : (Jvm.Cond.code ({ cls := "TubBites$Free", name := "piece", desc := "(LTubBites$Water;LTubBites$Bobber;LTubBites$Apple;)V" } : Jvm.MethodName) prog_4_method_2_code (4 : Nat) (Option.none : Option Jvm.ClassFile.FieldType)) ∈ lw_all := lw_g (lw_at lw_m5 118 rfl) rfl
theorem q1223 : (Jvm.Cond.methodLink "TubBites$Free" (28 : Nat) ({ cls := "java/lang/Math", name := "max", desc := "(II)I" } : Jvm.MethodName)) ∈ lw_all := lw_g (lw_at lw_m5 119 rfl) rfl
theorem q1224 : (Jvm.Cond.methodLink "TubBites$Free" (46 : Nat) ({ cls := "TubBites$Water", name := "pushFrom", desc := "(LTubBites$Bobber;LTubBites$Apple;)V" } : Jvm.MethodName)) ∈ lw_all := lw_g (lw_at lw_m5 120 rfl) rfl
theorem q2357 : (Jvm.Cond.initialized "TubBites$Free") ∈ lw_all := lw_g (lw_at lw_m10 53 rfl) rfl
theorem q2381 : (Jvm.Cond.castable "TubBites$Free" "java/lang/Object") ∈ lw_tbl := lw_at lw_m10 77 rfl

/-! TubBites$Grounded -/
set_option maxRecDepth 100000
def RX17 : String := "TubBites$Grounded"
abbrev cX17_breath : ByteArray := prog_5_method_3_code
def yX17_breath : MethodName := ⟨RX17, "breath", "()I"⟩
theorem dX17_breath_0 : decode cX17_breath 0 = .ok (.iconst 3, 1) := by decide +kernel
theorem dX17_breath_1 : decode cX17_breath 1 = .ok (.ireturn, 1) := by decide +kernel
abbrev cX17_suits : ByteArray := prog_5_method_4_code
def yX17_suits : MethodName := ⟨RX17, "suits", "(LTubBites$Water;LTubBites$Bobber;LTubBites$Apple;)Z"⟩
theorem dX17_suits_0 : decode cX17_suits 0 = .ok (.iconst 1, 1) := by decide +kernel
theorem dX17_suits_1 : decode cX17_suits 1 = .ok (.ireturn, 1) := by decide +kernel
abbrev cX17_seconds : ByteArray := prog_5_method_2_code
def yX17_seconds : MethodName := ⟨RX17, "seconds", "()I"⟩
def dkwX17_seconds_0 : List UInt8 := [42, 183, 0, 7, 4, 96, 172]
abbrev dktX17_seconds_0 : List UInt8 := dkwX17_seconds_0 ++ []
theorem dksX17_seconds_0 : cX17_seconds.data.toList.drop 0 = dktX17_seconds_0 := by decide +kernel
theorem dX17_seconds_0 : decode cX17_seconds 0 = .ok (.aload_n 0, 1) := dk_42 (dk_at dksX17_seconds_0 0 rfl rfl)
theorem dX17_seconds_1 : decode cX17_seconds 1 = .ok (.invokespecial 7, 3) := dk_183 0 7 (dk_at dksX17_seconds_0 1 rfl rfl)
theorem dX17_seconds_4 : decode cX17_seconds 4 = .ok (.iconst 1, 1) := dk_4 (dk_at dksX17_seconds_0 4 rfl rfl)
theorem dX17_seconds_5 : decode cX17_seconds 5 = .ok (.iadd, 1) := dk_96 (dk_at dksX17_seconds_0 5 rfl rfl)
theorem dX17_seconds_6 : decode cX17_seconds 6 = .ok (.ireturn, 1) := dk_172 (dk_at dksX17_seconds_0 6 rfl rfl)
theorem q782 : (Jvm.Cond.selects "TubBites$Grounded" ({ cls := "java/lang/Object", name := "getClass", desc := "()Ljava/lang/Class;" } : Jvm.MethodName) ({ cls := "java/lang/Object", name := "getClass", desc := "()Ljava/lang/Class;" } : Jvm.MethodName)) ∈ lw_all := lw_g (lw_at lw_m3 158 rfl) rfl
theorem q1049 : (Jvm.Cond.selects "TubBites$Grounded" ({ cls := "TubBites$Try", name := "breath", desc := "()I" } : Jvm.MethodName) ({ cls := "TubBites$Grounded", name := "breath", desc := "()I" } : Jvm.MethodName)) ∈ lw_all := lw_g (lw_at lw_m4 185 rfl) rfl
theorem q1050 : (Jvm.Cond.instanceMethod ({ cls := "TubBites$Grounded", name := "breath", desc := "()I" } : Jvm.MethodName)) ∈ lw_all := lw_g (lw_at lw_m4 186 rfl) rfl
theorem q1051 : (Jvm.Cond.code ({ cls := "TubBites$Grounded", name := "breath", desc := "()I" } : Jvm.MethodName) prog_5_method_3_code (1 : Nat) (Option.some Jvm.ClassFile.FieldType.int)) ∈ lw_all := lw_g (lw_at lw_m4 187 rfl) rfl
theorem q1063 : (Jvm.Cond.selects "TubBites$Grounded" ({ cls := "TubBites$Try", name := "suits", desc := "(LTubBites$Water;LTubBites$Bobber;LTubBites$Apple;)Z" } : Jvm.MethodName) ({ cls := "TubBites$Grounded", name := "suits", desc := "(LTubBites$Water;LTubBites$Bobber;LTubBites$Apple;)Z" } : Jvm.MethodName)) ∈ lw_all := lw_g (lw_at lw_m4 199 rfl) rfl
theorem q1064 : (Jvm.Cond.instanceMethod ({ cls := "TubBites$Grounded", name := "suits", desc := "(LTubBites$Water;LTubBites$Bobber;LTubBites$Apple;)Z" } : Jvm.MethodName)) ∈ lw_all := lw_g (lw_at lw_m4 200 rfl) rfl
theorem q1065 : (Jvm.Cond.code ({ cls := "TubBites$Grounded", name := "suits", desc := "(LTubBites$Water;LTubBites$Bobber;LTubBites$Apple;)Z" } : Jvm.MethodName) prog_5_method_4_code (4 : Nat) (Option.some Jvm.ClassFile.FieldType.boolean)) ∈ lw_all := lw_g (lw_at lw_m4 201 rfl) rfl
theorem q1194 : (Jvm.Cond.selects "TubBites$Grounded" ({ cls := "TubBites$Try", name := "seconds", desc := "()I" } : Jvm.MethodName) ({ cls := "TubBites$Grounded", name := "seconds", desc := "()I" } : Jvm.MethodName)) ∈ lw_all := lw_g (lw_at lw_m5 90 rfl) rfl
theorem q1195 : (Jvm.Cond.instanceMethod ({ cls := "TubBites$Grounded", name := "seconds", desc := "()I" } : Jvm.MethodName)) ∈ lw_all := lw_g (lw_at lw_m5 91 rfl) rfl
theorem q1196 : (Jvm.Cond.code ({ cls := "TubBites$Grounded", name := "seconds", desc := "()I" } : Jvm.MethodName) prog_5_method_2_code (1 : Nat) (Option.some Jvm.ClassFile.FieldType.int)) ∈ lw_all := lw_g (lw_at lw_m5 92 rfl) rfl
theorem q1197 : (Jvm.Cond.methodLink "TubBites$Grounded" (7 : Nat) ({ cls := "TubBites$Walled", name := "seconds", desc := "()I" } : Jvm.MethodName)) ∈ lw_all := lw_g (lw_at lw_m5 93 rfl) rfl
theorem q1198 : (Jvm.Cond.superclass "TubBites$Grounded" "TubBites$Walled") ∈ lw_all := lw_g (lw_at lw_m5 94 rfl) rfl
theorem q1240 : (Jvm.Cond.selects "TubBites$Grounded" ({ cls := "TubBites$Try", name := "missed", desc := "(LTubBites$Water;LTubBites$Bobber;LTubBites$Apple;)V" } : Jvm.MethodName) ({ cls := "TubBites$Try", name := "missed", desc := "(LTubBites$Water;LTubBites$Bobber;LTubBites$Apple;)V" } : Jvm.MethodName)) ∈ lw_all := lw_g (lw_at lw_m5 136 rfl) rfl
theorem q2358 : (Jvm.Cond.initialized "TubBites$Grounded") ∈ lw_all := lw_g (lw_at lw_m10 54 rfl) rfl
theorem q2384 : (Jvm.Cond.castable "TubBites$Grounded" "java/lang/Object") ∈ lw_tbl := lw_at lw_m10 80 rfl

/-! TubBites$Leaned -/
set_option maxRecDepth 100000
def RX18 : String := "TubBites$Leaned"
abbrev cX18_breath : ByteArray := prog_7_method_3_code
def yX18_breath : MethodName := ⟨RX18, "breath", "()I"⟩
theorem dX18_breath_0 : decode cX18_breath 0 = .ok (.iconst 0, 1) := by decide +kernel
theorem dX18_breath_1 : decode cX18_breath 1 = .ok (.ireturn, 1) := by decide +kernel
abbrev cX18_suits : ByteArray := prog_7_method_4_code
def yX18_suits : MethodName := ⟨RX18, "suits", "(LTubBites$Water;LTubBites$Bobber;LTubBites$Apple;)Z"⟩
def dkwX18_suits_2 : List UInt8 := [4, 167, 0, 4, 3, 172]
abbrev dktX18_suits_2 : List UInt8 := dkwX18_suits_2 ++ []
def dkwX18_suits_1 : List UInt8 := [153, 0, 28, 43, 45, 180, 0, 16, 21, 4, 96, 45, 180, 0, 22, 21, 5, 96, 182, 0, 25, 198, 0, 7]
abbrev dktX18_suits_1 : List UInt8 := dkwX18_suits_1 ++ dktX18_suits_2
def dkwX18_suits_0 : List UInt8 := [43, 44, 45, 182, 0, 7, 54, 4, 43, 44, 45, 182, 0, 13, 54, 5, 21, 4, 154, 0, 8, 21, 5]
abbrev dktX18_suits_0 : List UInt8 := dkwX18_suits_0 ++ dktX18_suits_1
theorem dksX18_suits_0 : cX18_suits.data.toList.drop 0 = dktX18_suits_0 := by decide +kernel
theorem dksX18_suits_1 : cX18_suits.data.toList.drop 23 = dktX18_suits_1 := dk_seg dksX18_suits_0 23 rfl rfl
theorem dksX18_suits_2 : cX18_suits.data.toList.drop 47 = dktX18_suits_2 := dk_seg dksX18_suits_1 24 rfl rfl
theorem dX18_suits_0 : decode cX18_suits 0 = .ok (.aload_n 1, 1) := dk_43 (dk_at dksX18_suits_0 0 rfl rfl)
theorem dX18_suits_1 : decode cX18_suits 1 = .ok (.aload_n 2, 1) := dk_44 (dk_at dksX18_suits_0 1 rfl rfl)
theorem dX18_suits_2 : decode cX18_suits 2 = .ok (.aload_n 3, 1) := dk_45 (dk_at dksX18_suits_0 2 rfl rfl)
theorem dX18_suits_3 : decode cX18_suits 3 = .ok (.invokevirtual 7, 3) := dk_182 0 7 (dk_at dksX18_suits_0 3 rfl rfl)
theorem dX18_suits_6 : decode cX18_suits 6 = .ok (.istore 4, 2) := dk_54 4 (dk_at dksX18_suits_0 6 rfl rfl)
theorem dX18_suits_8 : decode cX18_suits 8 = .ok (.aload_n 1, 1) := dk_43 (dk_at dksX18_suits_0 8 rfl rfl)
theorem dX18_suits_9 : decode cX18_suits 9 = .ok (.aload_n 2, 1) := dk_44 (dk_at dksX18_suits_0 9 rfl rfl)
theorem dX18_suits_10 : decode cX18_suits 10 = .ok (.aload_n 3, 1) := dk_45 (dk_at dksX18_suits_0 10 rfl rfl)
theorem dX18_suits_11 : decode cX18_suits 11 = .ok (.invokevirtual 13, 3) := dk_182 0 13 (dk_at dksX18_suits_0 11 rfl rfl)
theorem dX18_suits_14 : decode cX18_suits 14 = .ok (.istore 5, 2) := dk_54 5 (dk_at dksX18_suits_0 14 rfl rfl)
theorem dX18_suits_16 : decode cX18_suits 16 = .ok (.iload 4, 2) := dk_21 4 (dk_at dksX18_suits_0 16 rfl rfl)
theorem dX18_suits_18 : decode cX18_suits 18 = .ok (.ifCond .ne 8, 3) := dk_154 0 8 (dk_at dksX18_suits_0 18 rfl rfl)
theorem dX18_suits_21 : decode cX18_suits 21 = .ok (.iload 5, 2) := dk_21 5 (dk_at dksX18_suits_0 21 rfl rfl)
theorem dX18_suits_23 : decode cX18_suits 23 = .ok (.ifCond .eq 28, 3) := dk_153 0 28 (dk_at dksX18_suits_1 0 rfl rfl)
theorem dX18_suits_26 : decode cX18_suits 26 = .ok (.aload_n 1, 1) := dk_43 (dk_at dksX18_suits_1 3 rfl rfl)
theorem dX18_suits_27 : decode cX18_suits 27 = .ok (.aload_n 3, 1) := dk_45 (dk_at dksX18_suits_1 4 rfl rfl)
theorem dX18_suits_28 : decode cX18_suits 28 = .ok (.getfield 16, 3) := dk_180 0 16 (dk_at dksX18_suits_1 5 rfl rfl)
theorem dX18_suits_31 : decode cX18_suits 31 = .ok (.iload 4, 2) := dk_21 4 (dk_at dksX18_suits_1 8 rfl rfl)
theorem dX18_suits_33 : decode cX18_suits 33 = .ok (.iadd, 1) := dk_96 (dk_at dksX18_suits_1 10 rfl rfl)
theorem dX18_suits_34 : decode cX18_suits 34 = .ok (.aload_n 3, 1) := dk_45 (dk_at dksX18_suits_1 11 rfl rfl)
theorem dX18_suits_35 : decode cX18_suits 35 = .ok (.getfield 22, 3) := dk_180 0 22 (dk_at dksX18_suits_1 12 rfl rfl)
theorem dX18_suits_38 : decode cX18_suits 38 = .ok (.iload 5, 2) := dk_21 5 (dk_at dksX18_suits_1 15 rfl rfl)
theorem dX18_suits_40 : decode cX18_suits 40 = .ok (.iadd, 1) := dk_96 (dk_at dksX18_suits_1 17 rfl rfl)
theorem dX18_suits_41 : decode cX18_suits 41 = .ok (.invokevirtual 25, 3) := dk_182 0 25 (dk_at dksX18_suits_1 18 rfl rfl)
theorem dX18_suits_44 : decode cX18_suits 44 = .ok (.ifnull 7, 3) := dk_198 0 7 (dk_at dksX18_suits_1 21 rfl rfl)
theorem dX18_suits_47 : decode cX18_suits 47 = .ok (.iconst 1, 1) := dk_4 (dk_at dksX18_suits_2 0 rfl rfl)
theorem dX18_suits_48 : decode cX18_suits 48 = .ok (.goto 4, 3) := dk_167 0 4 (dk_at dksX18_suits_2 1 rfl rfl)
theorem dX18_suits_51 : decode cX18_suits 51 = .ok (.iconst 0, 1) := dk_3 (dk_at dksX18_suits_2 4 rfl rfl)
theorem dX18_suits_52 : decode cX18_suits 52 = .ok (.ireturn, 1) := dk_172 (dk_at dksX18_suits_2 5 rfl rfl)
abbrev cX18_seconds : ByteArray := prog_7_method_2_code
def yX18_seconds : MethodName := ⟨RX18, "seconds", "()I"⟩
theorem dX18_seconds_0 : decode cX18_seconds 0 = .ok (.iconst 1, 1) := by decide +kernel
theorem dX18_seconds_1 : decode cX18_seconds 1 = .ok (.ireturn, 1) := by decide +kernel
theorem q784 : (Jvm.Cond.selects "TubBites$Leaned" ({ cls := "java/lang/Object", name := "getClass", desc := "()Ljava/lang/Class;" } : Jvm.MethodName) ({ cls := "java/lang/Object", name := "getClass", desc := "()Ljava/lang/Class;" } : Jvm.MethodName)) ∈ lw_all := lw_g (lw_at lw_m3 160 rfl) rfl
theorem q848 : (Jvm.Cond.fieldLinkNest "TubBites$Leaned" (16 : Nat) "TubBites$Apple" "x" "I" "TubBites") ∈ lw_tbl := lw_at lw_m3 224 rfl
theorem q854 : (Jvm.Cond.fieldLinkNest "TubBites$Leaned" (22 : Nat) "TubBites$Apple" "y" "I" "TubBites") ∈ lw_tbl := lw_at lw_m3 230 rfl
theorem q1052 : (Jvm.Cond.selects "TubBites$Leaned" ({ cls := "TubBites$Try", name := "breath", desc := "()I" } : Jvm.MethodName) ({ cls := "TubBites$Leaned", name := "breath", desc := "()I" } : Jvm.MethodName)) ∈ lw_all := lw_g (lw_at lw_m4 188 rfl) rfl
theorem q1053 : (Jvm.Cond.instanceMethod ({ cls := "TubBites$Leaned", name := "breath", desc := "()I" } : Jvm.MethodName)) ∈ lw_all := lw_g (lw_at lw_m4 189 rfl) rfl
theorem q1054 : (Jvm.Cond.code ({ cls := "TubBites$Leaned", name := "breath", desc := "()I" } : Jvm.MethodName) prog_7_method_3_code (1 : Nat) (Option.some Jvm.ClassFile.FieldType.int)) ∈ lw_all := lw_g (lw_at lw_m4 190 rfl) rfl
theorem q1066 : (Jvm.Cond.selects "TubBites$Leaned" ({ cls := "TubBites$Try", name := "suits", desc := "(LTubBites$Water;LTubBites$Bobber;LTubBites$Apple;)Z" } : Jvm.MethodName) ({ cls := "TubBites$Leaned", name := "suits", desc := "(LTubBites$Water;LTubBites$Bobber;LTubBites$Apple;)Z" } : Jvm.MethodName)) ∈ lw_all := lw_g (lw_at lw_m4 202 rfl) rfl
theorem q1067 : (Jvm.Cond.instanceMethod ({ cls := "TubBites$Leaned", name := "suits", desc := "(LTubBites$Water;LTubBites$Bobber;LTubBites$Apple;)Z" } : Jvm.MethodName)) ∈ lw_all := lw_g (lw_at lw_m4 203 rfl) rfl
theorem q1068 : (Jvm.Cond.code ({ cls := "TubBites$Leaned", name := "suits", desc := "(LTubBites$Water;LTubBites$Bobber;LTubBites$Apple;)Z" } : Jvm.MethodName) prog_7_method_4_code (6 : Nat) (Option.some Jvm.ClassFile.FieldType.boolean)) ∈ lw_all := lw_g (lw_at lw_m4 204 rfl) rfl
theorem q1069 : (Jvm.Cond.methodLink "TubBites$Leaned" (7 : Nat) ({ cls := "TubBites$Water", name := "pushX", desc := "(LTubBites$Bobber;LTubBites$Apple;)I" } : Jvm.MethodName)) ∈ lw_all := lw_g (lw_at lw_m4 205 rfl) rfl
theorem q1080 : (Jvm.Cond.methodLink "TubBites$Leaned" (13 : Nat) ({ cls := "TubBites$Water", name := "pushY", desc := "(LTubBites$Bobber;LTubBites$Apple;)I" } : Jvm.MethodName)) ∈ lw_all := lw_g (lw_at lw_m4 216 rfl) rfl
theorem q1084 : (Jvm.Cond.methodLink "TubBites$Leaned" (25 : Nat) ({ cls := "TubBites$Water", name := "at", desc := "(II)LTubBites$Apple;" } : Jvm.MethodName)) ∈ lw_all := lw_g (lw_at lw_m4 220 rfl) rfl
theorem q1201 : (Jvm.Cond.selects "TubBites$Leaned" ({ cls := "TubBites$Try", name := "seconds", desc := "()I" } : Jvm.MethodName) ({ cls := "TubBites$Leaned", name := "seconds", desc := "()I" } : Jvm.MethodName)) ∈ lw_all := lw_g (lw_at lw_m5 97 rfl) rfl
theorem q1202 : (Jvm.Cond.instanceMethod ({ cls := "TubBites$Leaned", name := "seconds", desc := "()I" } : Jvm.MethodName)) ∈ lw_all := lw_g (lw_at lw_m5 98 rfl) rfl
theorem q1203 : (Jvm.Cond.code ({ cls := "TubBites$Leaned", name := "seconds", desc := "()I" } : Jvm.MethodName) prog_7_method_2_code (1 : Nat) (Option.some Jvm.ClassFile.FieldType.int)) ∈ lw_all := lw_g (lw_at lw_m5 99 rfl) rfl
theorem q1241 : (Jvm.Cond.selects "TubBites$Leaned" ({ cls := "TubBites$Try", name := "missed", desc := "(LTubBites$Water;LTubBites$Bobber;LTubBites$Apple;)V" } : Jvm.MethodName) ({ cls := "TubBites$Try", name := "missed", desc := "(LTubBites$Water;LTubBites$Bobber;LTubBites$Apple;)V" } : Jvm.MethodName)) ∈ lw_all := lw_g (lw_at lw_m5 137 rfl) rfl
theorem q2359 : (Jvm.Cond.initialized "TubBites$Leaned") ∈ lw_all := lw_g (lw_at lw_m10 55 rfl) rfl
theorem q2385 : (Jvm.Cond.castable "TubBites$Leaned" "java/lang/Object") ∈ lw_tbl := lw_at lw_m10 81 rfl

/-! TubBites$Stalked -/
set_option maxRecDepth 100000
def RX19 : String := "TubBites$Stalked"
abbrev cX19_suits : ByteArray := prog_15_method_3_code
def yX19_suits : MethodName := ⟨RX19, "suits", "(LTubBites$Water;LTubBites$Bobber;LTubBites$Apple;)Z"⟩
theorem dX19_suits_0 : decode cX19_suits 0 = .ok (.aload_n 3, 1) := by decide +kernel
theorem dX19_suits_1 : decode cX19_suits 1 = .ok (.getfield 7, 3) := by decide +kernel
theorem dX19_suits_4 : decode cX19_suits 4 = .ok (.ireturn, 1) := by decide +kernel
abbrev cX19_piece : ByteArray := prog_15_method_2_code
def yX19_piece : MethodName := ⟨RX19, "piece", "(LTubBites$Water;LTubBites$Bobber;LTubBites$Apple;)V"⟩
theorem dX19_piece_0 : decode cX19_piece 0 = .ok (.return_, 1) := by decide +kernel
theorem q791 : (Jvm.Cond.selects "TubBites$Stalked" ({ cls := "java/lang/Object", name := "getClass", desc := "()Ljava/lang/Class;" } : Jvm.MethodName) ({ cls := "java/lang/Object", name := "getClass", desc := "()Ljava/lang/Class;" } : Jvm.MethodName)) ∈ lw_all := lw_g (lw_at lw_m3 167 rfl) rfl
theorem q842 : (Jvm.Cond.fieldLinkNest "TubBites$Stalked" (7 : Nat) "TubBites$Apple" "hasStalk" "Z" "TubBites") ∈ lw_tbl := lw_at lw_m3 218 rfl
theorem q1055 : (Jvm.Cond.selects "TubBites$Stalked" ({ cls := "TubBites$Try", name := "breath", desc := "()I" } : Jvm.MethodName) ({ cls := "TubBites$Free", name := "breath", desc := "()I" } : Jvm.MethodName)) ∈ lw_all := lw_g (lw_at lw_m4 191 rfl) rfl
theorem q1088 : (Jvm.Cond.selects "TubBites$Stalked" ({ cls := "TubBites$Try", name := "suits", desc := "(LTubBites$Water;LTubBites$Bobber;LTubBites$Apple;)Z" } : Jvm.MethodName) ({ cls := "TubBites$Stalked", name := "suits", desc := "(LTubBites$Water;LTubBites$Bobber;LTubBites$Apple;)Z" } : Jvm.MethodName)) ∈ lw_all := lw_g (lw_at lw_m4 224 rfl) rfl
theorem q1089 : (Jvm.Cond.instanceMethod ({ cls := "TubBites$Stalked", name := "suits", desc := "(LTubBites$Water;LTubBites$Bobber;LTubBites$Apple;)Z" } : Jvm.MethodName)) ∈ lw_all := lw_g (lw_at lw_m4 225 rfl) rfl
theorem q1090 : (Jvm.Cond.code ({ cls := "TubBites$Stalked", name := "suits", desc := "(LTubBites$Water;LTubBites$Bobber;LTubBites$Apple;)Z" } : Jvm.MethodName) prog_15_method_3_code (4 : Nat) (Option.some Jvm.ClassFile.FieldType.boolean)) ∈ lw_all := lw_g (lw_at lw_m4 226 rfl) rfl
theorem q1204 : (Jvm.Cond.selects "TubBites$Stalked" ({ cls := "TubBites$Try", name := "seconds", desc := "()I" } : Jvm.MethodName) ({ cls := "TubBites$Free", name := "seconds", desc := "()I" } : Jvm.MethodName)) ∈ lw_all := lw_g (lw_at lw_m5 100 rfl) rfl
theorem q1219 : (Jvm.Cond.selects "TubBites$Stalked" ({ cls := "TubBites$Free", name := "piece", desc := "(LTubBites$Water;LTubBites$Bobber;LTubBites$Apple;)V" } : Jvm.MethodName) ({ cls := "TubBites$Stalked", name := "piece", desc := "(LTubBites$Water;LTubBites$Bobber;LTubBites$Apple;)V" } : Jvm.MethodName)) ∈ lw_all := lw_g (lw_at lw_m5 115 rfl) rfl
theorem q1220 : (Jvm.Cond.instanceMethod ({ cls := "TubBites$Stalked", name := "piece", desc := "(LTubBites$Water;LTubBites$Bobber;LTubBites$Apple;)V" } : Jvm.MethodName)) ∈ lw_all := lw_g (lw_at lw_m5 116 rfl) rfl
theorem q1221 : (Jvm.Cond.code ({ cls := "TubBites$Stalked", name := "piece", desc := "(LTubBites$Water;LTubBites$Bobber;LTubBites$Apple;)V" } : Jvm.MethodName) prog_15_method_2_code (4 : Nat) (Option.none : Option Jvm.ClassFile.FieldType)) ∈ lw_all := lw_g (lw_at lw_m5 117 rfl) rfl
theorem q1242 : (Jvm.Cond.selects "TubBites$Stalked" ({ cls := "TubBites$Try", name := "missed", desc := "(LTubBites$Water;LTubBites$Bobber;LTubBites$Apple;)V" } : Jvm.MethodName) ({ cls := "TubBites$Free", name := "missed", desc := "(LTubBites$Water;LTubBites$Bobber;LTubBites$Apple;)V" } : Jvm.MethodName)) ∈ lw_all := lw_g (lw_at lw_m5 138 rfl) rfl
theorem q2361 : (Jvm.Cond.initialized "TubBites$Stalked") ∈ lw_all := lw_g (lw_at lw_m10 57 rfl) rfl
theorem q2382 : (Jvm.Cond.castable "TubBites$Stalked" "java/lang/Object") ∈ lw_tbl := lw_at lw_m10 78 rfl

/-! TubBites$Told -/
set_option maxRecDepth 100000
def RX2 : String := "TubBites$Told"
def TX2 : u_T := fun k => match k with
  | _ => ("TubBites$Told", "its", "[I", true)
def tyX2 : Nat → FieldType := fun k => match k with
  | _ => .array .int
abbrev wsX20 : List Cond := u_ws RX2 TX2 1
theorem nmX2 : ∀ a, a < 1 → ∀ b, b < 1 → a ≠ b → (TX2 a).2.1 ≠ (TX2 b).2.1 := by decide +kernel
theorem tyX2_ok : ∀ k, k < 1 → parseFieldDescriptor (TX2 k).2.2.1 = some (tyX2 k) := by decide +kernel
abbrev cX2_init : ByteArray := prog_16_method_1_code
def yX2_init : MethodName := ⟨RX2, "<init>", "()V"⟩
def dkwX2_init_0 : List UInt8 := [42, 183, 0, 1, 42, 16, 10, 188, 10, 181, 0, 7, 177]
abbrev dktX2_init_0 : List UInt8 := dkwX2_init_0 ++ []
theorem dksX2_init_0 : cX2_init.data.toList.drop 0 = dktX2_init_0 := by decide +kernel
theorem dX2_init_0 : decode cX2_init 0 = .ok (.aload_n 0, 1) := dk_42 (dk_at dksX2_init_0 0 rfl rfl)
theorem dX2_init_1 : decode cX2_init 1 = .ok (.invokespecial 1, 3) := dk_183 0 1 (dk_at dksX2_init_0 1 rfl rfl)
theorem dX2_init_4 : decode cX2_init 4 = .ok (.aload_n 0, 1) := dk_42 (dk_at dksX2_init_0 4 rfl rfl)
theorem dX2_init_5 : decode cX2_init 5 = .ok (.bipush 10, 2) := dk_16 10 (dk_at dksX2_init_0 5 rfl rfl)
theorem dX2_init_7 : decode cX2_init 7 = .ok (.newarray .int, 2) := dk_188_10 (dk_at dksX2_init_0 7 rfl rfl)
theorem dX2_init_9 : decode cX2_init 9 = .ok (.putfield 7, 3) := dk_181 0 7 (dk_at dksX2_init_0 9 rfl rfl)
theorem dX2_init_12 : decode cX2_init 12 = .ok (.return_, 1) := dk_177 (dk_at dksX2_init_0 12 rfl rfl)
theorem q150 : (Jvm.Cond.initialized "TubBites$Told") ∈ lw_all := lw_g (lw_at lw_m1 6 rfl) rfl
theorem q219 : (Jvm.Cond.instantiable "TubBites$Told" (1 : Nat)) ∈ lw_all := lw_g (lw_at lw_m1 75 rfl) rfl
theorem q221 : (Jvm.Cond.instanceMethod ({ cls := "TubBites$Told", name := "<init>", desc := "()V" } : Jvm.MethodName)) ∈ lw_all := lw_g (lw_at lw_m1 77 rfl) rfl
theorem q222 : (Jvm.Cond.code ({ cls := "TubBites$Told", name := "<init>", desc := "()V" } : Jvm.MethodName) prog_16_method_1_code (1 : Nat) (Option.none : Option Jvm.ClassFile.FieldType)) ∈ lw_all := lw_g (lw_at lw_m1 78 rfl) rfl
theorem q223 : (Jvm.Cond.methodLink "TubBites$Told" (1 : Nat) ({ cls := "java/lang/Object", name := "<init>", desc := "()V" } : Jvm.MethodName)) ∈ lw_all := lw_g (lw_at lw_m1 79 rfl) rfl
theorem q224 : (Jvm.Cond.fieldLink "TubBites$Told" (7 : Nat) "TubBites$Told" "its" "[I") ∈ lw_all := lw_g (lw_at lw_m1 80 rfl) rfl
theorem q227 : (Jvm.Cond.laysFinal "TubBites$Told" "TubBites$Told" "its" "[I") ∈ lw_all := lw_g (lw_at lw_m1 83 rfl) rfl
theorem q228 : (Jvm.Cond.soleField "TubBites$Told" "its") ∈ lw_all := lw_g (lw_at lw_m1 84 rfl) rfl
theorem q229 : (Jvm.Cond.superclass "TubBites$Told" "java/lang/Object") ∈ lw_all := lw_g (lw_at lw_m1 85 rfl) rfl
theorem q792 : (Jvm.Cond.selects "TubBites$Told" ({ cls := "java/lang/Object", name := "getClass", desc := "()Ljava/lang/Class;" } : Jvm.MethodName) ({ cls := "java/lang/Object", name := "getClass", desc := "()Ljava/lang/Class;" } : Jvm.MethodName)) ∈ lw_all := lw_g (lw_at lw_m3 168 rfl) rfl
theorem q2370 : (Jvm.Cond.castable "TubBites$Told" "java/lang/Object") ∈ lw_tbl := lw_at lw_m10 66 rfl
theorem in_X2 : ∀ w ∈ wsX20, w ∈ lw_all := lw_in wsX20 [227] (by decide +kernel) (by decide +kernel)

/-! TubBites$Walled -/
set_option maxRecDepth 100000
def RX20 : String := "TubBites$Walled"
abbrev cX20_breath : ByteArray := prog_19_method_3_code
def yX20_breath : MethodName := ⟨RX20, "breath", "()I"⟩
theorem dX20_breath_0 : decode cX20_breath 0 = .ok (.iconst 1, 1) := by decide +kernel
theorem dX20_breath_1 : decode cX20_breath 1 = .ok (.ireturn, 1) := by decide +kernel
abbrev cX20_suits : ByteArray := prog_19_method_4_code
def yX20_suits : MethodName := ⟨RX20, "suits", "(LTubBites$Water;LTubBites$Bobber;LTubBites$Apple;)Z"⟩
def dkwX20_suits_0 : List UInt8 := [43, 45, 180, 0, 7, 45, 180, 0, 13, 182, 0, 16, 172]
abbrev dktX20_suits_0 : List UInt8 := dkwX20_suits_0 ++ []
theorem dksX20_suits_0 : cX20_suits.data.toList.drop 0 = dktX20_suits_0 := by decide +kernel
theorem dX20_suits_0 : decode cX20_suits 0 = .ok (.aload_n 1, 1) := dk_43 (dk_at dksX20_suits_0 0 rfl rfl)
theorem dX20_suits_1 : decode cX20_suits 1 = .ok (.aload_n 3, 1) := dk_45 (dk_at dksX20_suits_0 1 rfl rfl)
theorem dX20_suits_2 : decode cX20_suits 2 = .ok (.getfield 7, 3) := dk_180 0 7 (dk_at dksX20_suits_0 2 rfl rfl)
theorem dX20_suits_5 : decode cX20_suits 5 = .ok (.aload_n 3, 1) := dk_45 (dk_at dksX20_suits_0 5 rfl rfl)
theorem dX20_suits_6 : decode cX20_suits 6 = .ok (.getfield 13, 3) := dk_180 0 13 (dk_at dksX20_suits_0 6 rfl rfl)
theorem dX20_suits_9 : decode cX20_suits 9 = .ok (.invokevirtual 16, 3) := dk_182 0 16 (dk_at dksX20_suits_0 9 rfl rfl)
theorem dX20_suits_12 : decode cX20_suits 12 = .ok (.ireturn, 1) := dk_172 (dk_at dksX20_suits_0 12 rfl rfl)
abbrev cX20_seconds : ByteArray := prog_19_method_2_code
def yX20_seconds : MethodName := ⟨RX20, "seconds", "()I"⟩
theorem dX20_seconds_0 : decode cX20_seconds 0 = .ok (.iconst 2, 1) := by decide +kernel
theorem dX20_seconds_1 : decode cX20_seconds 1 = .ok (.ireturn, 1) := by decide +kernel
theorem q794 : (Jvm.Cond.selects "TubBites$Walled" ({ cls := "java/lang/Object", name := "getClass", desc := "()Ljava/lang/Class;" } : Jvm.MethodName) ({ cls := "java/lang/Object", name := "getClass", desc := "()Ljava/lang/Class;" } : Jvm.MethodName)) ∈ lw_all := lw_g (lw_at lw_m3 170 rfl) rfl
theorem q847 : (Jvm.Cond.fieldLinkNest "TubBites$Walled" (7 : Nat) "TubBites$Apple" "x" "I" "TubBites") ∈ lw_tbl := lw_at lw_m3 223 rfl
theorem q853 : (Jvm.Cond.fieldLinkNest "TubBites$Walled" (13 : Nat) "TubBites$Apple" "y" "I" "TubBites") ∈ lw_tbl := lw_at lw_m3 229 rfl
theorem q1056 : (Jvm.Cond.selects "TubBites$Walled" ({ cls := "TubBites$Try", name := "breath", desc := "()I" } : Jvm.MethodName) ({ cls := "TubBites$Walled", name := "breath", desc := "()I" } : Jvm.MethodName)) ∈ lw_all := lw_g (lw_at lw_m4 192 rfl) rfl
theorem q1057 : (Jvm.Cond.instanceMethod ({ cls := "TubBites$Walled", name := "breath", desc := "()I" } : Jvm.MethodName)) ∈ lw_all := lw_g (lw_at lw_m4 193 rfl) rfl
theorem q1058 : (Jvm.Cond.code ({ cls := "TubBites$Walled", name := "breath", desc := "()I" } : Jvm.MethodName) prog_19_method_3_code (1 : Nat) (Option.some Jvm.ClassFile.FieldType.int)) ∈ lw_all := lw_g (lw_at lw_m4 194 rfl) rfl
theorem q1091 : (Jvm.Cond.selects "TubBites$Walled" ({ cls := "TubBites$Try", name := "suits", desc := "(LTubBites$Water;LTubBites$Bobber;LTubBites$Apple;)Z" } : Jvm.MethodName) ({ cls := "TubBites$Walled", name := "suits", desc := "(LTubBites$Water;LTubBites$Bobber;LTubBites$Apple;)Z" } : Jvm.MethodName)) ∈ lw_all := lw_g (lw_at lw_m4 227 rfl) rfl
theorem q1092 : (Jvm.Cond.instanceMethod ({ cls := "TubBites$Walled", name := "suits", desc := "(LTubBites$Water;LTubBites$Bobber;LTubBites$Apple;)Z" } : Jvm.MethodName)) ∈ lw_all := lw_g (lw_at lw_m4 228 rfl) rfl
theorem q1093 : (Jvm.Cond.code ({ cls := "TubBites$Walled", name := "suits", desc := "(LTubBites$Water;LTubBites$Bobber;LTubBites$Apple;)Z" } : Jvm.MethodName) prog_19_method_4_code (4 : Nat) (Option.some Jvm.ClassFile.FieldType.boolean)) ∈ lw_all := lw_g (lw_at lw_m4 229 rfl) rfl
theorem q1094 : (Jvm.Cond.methodLink "TubBites$Walled" (16 : Nat) ({ cls := "TubBites$Water", name := "isRim", desc := "(II)Z" } : Jvm.MethodName)) ∈ lw_all := lw_g (lw_at lw_m4 230 rfl) rfl
theorem q1199 : (Jvm.Cond.instanceMethod ({ cls := "TubBites$Walled", name := "seconds", desc := "()I" } : Jvm.MethodName)) ∈ lw_all := lw_g (lw_at lw_m5 95 rfl) rfl
theorem q1200 : (Jvm.Cond.code ({ cls := "TubBites$Walled", name := "seconds", desc := "()I" } : Jvm.MethodName) prog_19_method_2_code (1 : Nat) (Option.some Jvm.ClassFile.FieldType.int)) ∈ lw_all := lw_g (lw_at lw_m5 96 rfl) rfl
theorem q1205 : (Jvm.Cond.selects "TubBites$Walled" ({ cls := "TubBites$Try", name := "seconds", desc := "()I" } : Jvm.MethodName) ({ cls := "TubBites$Walled", name := "seconds", desc := "()I" } : Jvm.MethodName)) ∈ lw_all := lw_g (lw_at lw_m5 101 rfl) rfl
theorem q1243 : (Jvm.Cond.selects "TubBites$Walled" ({ cls := "TubBites$Try", name := "missed", desc := "(LTubBites$Water;LTubBites$Bobber;LTubBites$Apple;)V" } : Jvm.MethodName) ({ cls := "TubBites$Try", name := "missed", desc := "(LTubBites$Water;LTubBites$Bobber;LTubBites$Apple;)V" } : Jvm.MethodName)) ∈ lw_all := lw_g (lw_at lw_m5 139 rfl) rfl
theorem q2355 : (Jvm.Cond.sameMethod "TubBites$Walled" "TubBites$Walled" "seconds" "()I") ∈ lw_all := lw_g (lw_at lw_m10 51 rfl) rfl
theorem q2360 : (Jvm.Cond.initialized "TubBites$Walled") ∈ lw_all := lw_g (lw_at lw_m10 56 rfl) rfl
theorem q2383 : (Jvm.Cond.castable "TubBites$Walled" "java/lang/Object") ∈ lw_tbl := lw_at lw_m10 79 rfl

/-! TubBites$Try -/
set_option maxRecDepth 100000
def RX21 : String := "TubBites$Try"
abbrev cX21_suits : ByteArray := prog_17_method_4_code
def yX21_suits : MethodName := ⟨RX21, "suits", "(LTubBites$Water;LTubBites$Bobber;LTubBites$Apple;)Z"⟩
theorem dX21_suits_0 : decode cX21_suits 0 = .ok (.iconst 1, 1) := by decide +kernel
theorem dX21_suits_1 : decode cX21_suits 1 = .ok (.ireturn, 1) := by decide +kernel
abbrev cX21_missed : ByteArray := prog_17_method_5_code
def yX21_missed : MethodName := ⟨RX21, "missed", "(LTubBites$Water;LTubBites$Bobber;LTubBites$Apple;)V"⟩
def dkwX21_missed_0 : List UInt8 := [45, 89, 180, 0, 7, 4, 96, 181, 0, 7, 177]
abbrev dktX21_missed_0 : List UInt8 := dkwX21_missed_0 ++ []
theorem dksX21_missed_0 : cX21_missed.data.toList.drop 0 = dktX21_missed_0 := by decide +kernel
theorem dX21_missed_0 : decode cX21_missed 0 = .ok (.aload_n 3, 1) := dk_45 (dk_at dksX21_missed_0 0 rfl rfl)
theorem dX21_missed_1 : decode cX21_missed 1 = .ok (.dup, 1) := dk_89 (dk_at dksX21_missed_0 1 rfl rfl)
theorem dX21_missed_2 : decode cX21_missed 2 = .ok (.getfield 7, 3) := dk_180 0 7 (dk_at dksX21_missed_0 2 rfl rfl)
theorem dX21_missed_5 : decode cX21_missed 5 = .ok (.iconst 1, 1) := dk_4 (dk_at dksX21_missed_0 5 rfl rfl)
theorem dX21_missed_6 : decode cX21_missed 6 = .ok (.iadd, 1) := dk_96 (dk_at dksX21_missed_0 6 rfl rfl)
theorem dX21_missed_7 : decode cX21_missed 7 = .ok (.putfield 7, 3) := dk_181 0 7 (dk_at dksX21_missed_0 7 rfl rfl)
theorem dX21_missed_10 : decode cX21_missed 10 = .ok (.return_, 1) := dk_177 (dk_at dksX21_missed_0 10 rfl rfl)
theorem q862 : (Jvm.Cond.fieldLinkNest "TubBites$Try" (7 : Nat) "TubBites$Apple" "missed" "I" "TubBites") ∈ lw_tbl := lw_at lw_m3 238 rfl
theorem q1044 : (Jvm.Cond.declares ({ cls := "TubBites$Try", name := "breath", desc := "()I" } : Jvm.MethodName)) ∈ lw_tbl := lw_at lw_m4 180 rfl
theorem q1045 : (Jvm.Cond.sameMethod "TubBites$Try" "TubBites$Try" "breath" "()I") ∈ lw_all := lw_g (lw_at lw_m4 181 rfl) rfl
theorem q1060 : (Jvm.Cond.instanceMethod ({ cls := "TubBites$Try", name := "suits", desc := "(LTubBites$Water;LTubBites$Bobber;LTubBites$Apple;)Z" } : Jvm.MethodName)) ∈ lw_all := lw_g (lw_at lw_m4 196 rfl) rfl
theorem q1061 : (Jvm.Cond.sameMethod "TubBites$Try" "TubBites$Try" "suits" "(LTubBites$Water;LTubBites$Bobber;LTubBites$Apple;)Z") ∈ lw_all := lw_g (lw_at lw_m4 197 rfl) rfl
theorem q1098 : (Jvm.Cond.code ({ cls := "TubBites$Try", name := "suits", desc := "(LTubBites$Water;LTubBites$Bobber;LTubBites$Apple;)Z" } : Jvm.MethodName) prog_17_method_4_code (4 : Nat) (Option.some Jvm.ClassFile.FieldType.boolean)) ∈ lw_all := lw_g (lw_at lw_m4 234 rfl) rfl
theorem q1189 : (Jvm.Cond.declares ({ cls := "TubBites$Try", name := "seconds", desc := "()I" } : Jvm.MethodName)) ∈ lw_tbl := lw_at lw_m5 85 rfl
theorem q1190 : (Jvm.Cond.sameMethod "TubBites$Try" "TubBites$Try" "seconds" "()I") ∈ lw_all := lw_g (lw_at lw_m5 86 rfl) rfl
theorem q1207 : (Jvm.Cond.instanceMethod ({ cls := "TubBites$Try", name := "missed", desc := "(LTubBites$Water;LTubBites$Bobber;LTubBites$Apple;)V" } : Jvm.MethodName)) ∈ lw_all := lw_g (lw_at lw_m5 103 rfl) rfl
theorem q1208 : (Jvm.Cond.sameMethod "TubBites$Try" "TubBites$Try" "missed" "(LTubBites$Water;LTubBites$Bobber;LTubBites$Apple;)V") ∈ lw_all := lw_g (lw_at lw_m5 104 rfl) rfl
theorem q1214 : (Jvm.Cond.code ({ cls := "TubBites$Try", name := "missed", desc := "(LTubBites$Water;LTubBites$Bobber;LTubBites$Apple;)V" } : Jvm.MethodName) prog_17_method_5_code (4 : Nat) (Option.none : Option Jvm.ClassFile.FieldType)) ∈ lw_all := lw_g (lw_at lw_m5 110 rfl) rfl
theorem q2362 : (Jvm.Cond.initialized "TubBites$Try") ∈ lw_all := lw_g (lw_at lw_m10 58 rfl) rfl
theorem q2366 : (Jvm.Cond.castable "TubBites$Try" "java/lang/Object") ∈ lw_tbl := lw_at lw_m10 62 rfl

/-! TubBites$Kept -/
set_option maxRecDepth 100000
def RX3 : String := "TubBites$Kept"
def TX3 : u_T := fun k => match k with
  | _ => ("TubBites$Kept", "all", "[I", false)
def tyX3 : Nat → FieldType := fun k => match k with
  | _ => .array .int
abbrev wsX30 : List Cond := u_ws RX3 TX3 1
theorem nmX3 : ∀ a, a < 1 → ∀ b, b < 1 → a ≠ b → (TX3 a).2.1 ≠ (TX3 b).2.1 := by decide +kernel
theorem tyX3_ok : ∀ k, k < 1 → parseFieldDescriptor (TX3 k).2.2.1 = some (tyX3 k) := by decide +kernel
abbrev cX3_init : ByteArray := prog_6_method_1_code
def yX3_init : MethodName := ⟨RX3, "<init>", "([I)V"⟩
def dkwX3_init_0 : List UInt8 := [42, 183, 0, 1, 42, 43, 181, 0, 7, 177]
abbrev dktX3_init_0 : List UInt8 := dkwX3_init_0 ++ []
theorem dksX3_init_0 : cX3_init.data.toList.drop 0 = dktX3_init_0 := by decide +kernel
theorem dX3_init_0 : decode cX3_init 0 = .ok (.aload_n 0, 1) := dk_42 (dk_at dksX3_init_0 0 rfl rfl)
theorem dX3_init_1 : decode cX3_init 1 = .ok (.invokespecial 1, 3) := dk_183 0 1 (dk_at dksX3_init_0 1 rfl rfl)
theorem dX3_init_4 : decode cX3_init 4 = .ok (.aload_n 0, 1) := dk_42 (dk_at dksX3_init_0 4 rfl rfl)
theorem dX3_init_5 : decode cX3_init 5 = .ok (.aload_n 1, 1) := dk_43 (dk_at dksX3_init_0 5 rfl rfl)
theorem dX3_init_6 : decode cX3_init 6 = .ok (.putfield 7, 3) := dk_181 0 7 (dk_at dksX3_init_0 6 rfl rfl)
theorem dX3_init_9 : decode cX3_init 9 = .ok (.return_, 1) := dk_177 (dk_at dksX3_init_0 9 rfl rfl)
theorem q151 : (Jvm.Cond.initialized "TubBites$Kept") ∈ lw_all := lw_g (lw_at lw_m1 7 rfl) rfl
theorem q294 : (Jvm.Cond.instantiable "TubBites$Kept" (1 : Nat)) ∈ lw_all := lw_g (lw_at lw_m1 150 rfl) rfl
theorem q296 : (Jvm.Cond.instanceMethod ({ cls := "TubBites$Kept", name := "<init>", desc := "([I)V" } : Jvm.MethodName)) ∈ lw_all := lw_g (lw_at lw_m1 152 rfl) rfl
theorem q297 : (Jvm.Cond.code ({ cls := "TubBites$Kept", name := "<init>", desc := "([I)V" } : Jvm.MethodName) prog_6_method_1_code (2 : Nat) (Option.none : Option Jvm.ClassFile.FieldType)) ∈ lw_all := lw_g (lw_at lw_m1 153 rfl) rfl
theorem q298 : (Jvm.Cond.methodLink "TubBites$Kept" (1 : Nat) ({ cls := "java/lang/Object", name := "<init>", desc := "()V" } : Jvm.MethodName)) ∈ lw_all := lw_g (lw_at lw_m1 154 rfl) rfl
theorem q299 : (Jvm.Cond.fieldLink "TubBites$Kept" (7 : Nat) "TubBites$Kept" "all" "[I") ∈ lw_all := lw_g (lw_at lw_m1 155 rfl) rfl
theorem q301 : (Jvm.Cond.lays "TubBites$Kept" "TubBites$Kept" "all" "[I") ∈ lw_all := lw_g (lw_at lw_m1 157 rfl) rfl
theorem q302 : (Jvm.Cond.soleField "TubBites$Kept" "all") ∈ lw_all := lw_g (lw_at lw_m1 158 rfl) rfl
theorem q303 : (Jvm.Cond.superclass "TubBites$Kept" "java/lang/Object") ∈ lw_all := lw_g (lw_at lw_m1 159 rfl) rfl
theorem q783 : (Jvm.Cond.selects "TubBites$Kept" ({ cls := "java/lang/Object", name := "getClass", desc := "()Ljava/lang/Class;" } : Jvm.MethodName) ({ cls := "java/lang/Object", name := "getClass", desc := "()Ljava/lang/Class;" } : Jvm.MethodName)) ∈ lw_all := lw_g (lw_at lw_m3 159 rfl) rfl
theorem q2364 : (Jvm.Cond.castable "TubBites$Kept" "java/lang/Object") ∈ lw_tbl := lw_at lw_m10 60 rfl
theorem in_X3 : ∀ w ∈ wsX30, w ∈ lw_all := lw_in wsX30 [301] (by decide +kernel) (by decide +kernel)

/-! TubBites$Reader -/
set_option maxRecDepth 100000
def RX5 : String := "TubBites$Reader"
def TX5 : u_T := fun k => match k with
  | 0 => ("TubBites$Reader", "text", "[B", true)
  | 1 => ("TubBites$Reader", "size", "I", true)
  | 2 => ("TubBites$Reader", "w", "LTubBites$Water;", true)
  | 3 => ("TubBites$Reader", "at", "I", false)
  | 4 => ("TubBites$Reader", "end", "I", false)
  | 5 => ("TubBites$Reader", "token", "I", false)
  | 6 => ("TubBites$Reader", "number", "I", false)
  | 7 => ("TubBites$Reader", "name", "J", false)
  | 8 => ("TubBites$Reader", "deep", "I", false)
  | _ => ("TubBites$Reader", "mine", "I", false)
def tyX5 : Nat → FieldType := fun k => match k with
  | 0 => .array .byte
  | 1 => .int
  | 2 => .object "TubBites$Water"
  | 3 => .int
  | 4 => .int
  | 5 => .int
  | 6 => .int
  | 7 => .long
  | 8 => .int
  | _ => .int
abbrev wsX50 : List Cond := u_ws RX5 TX5 10
theorem nmX5 : ∀ a, a < 10 → ∀ b, b < 10 → a ≠ b → (TX5 a).2.1 ≠ (TX5 b).2.1 := by decide +kernel
theorem tyX5_ok : ∀ k, k < 10 → parseFieldDescriptor (TX5 k).2.2.1 = some (tyX5 k) := by decide +kernel
abbrev cX5_init : ByteArray := prog_13_method_1_code
def yX5_init : MethodName := ⟨RX5, "<init>", "([BI)V"⟩
def dkwX5_init_1 : List UInt8 := [181, 0, 22, 177]
abbrev dktX5_init_1 : List UInt8 := dkwX5_init_1 ++ []
def dkwX5_init_0 : List UInt8 := [42, 183, 0, 3, 42, 187, 0, 9, 89, 183, 0, 11, 181, 0, 12, 42, 43, 181, 0, 18, 42, 28]
abbrev dktX5_init_0 : List UInt8 := dkwX5_init_0 ++ dktX5_init_1
theorem dksX5_init_0 : cX5_init.data.toList.drop 0 = dktX5_init_0 := by decide +kernel
theorem dksX5_init_1 : cX5_init.data.toList.drop 22 = dktX5_init_1 := dk_seg dksX5_init_0 22 rfl rfl
theorem dX5_init_0 : decode cX5_init 0 = .ok (.aload_n 0, 1) := dk_42 (dk_at dksX5_init_0 0 rfl rfl)
theorem dX5_init_1 : decode cX5_init 1 = .ok (.invokespecial 3, 3) := dk_183 0 3 (dk_at dksX5_init_0 1 rfl rfl)
theorem dX5_init_4 : decode cX5_init 4 = .ok (.aload_n 0, 1) := dk_42 (dk_at dksX5_init_0 4 rfl rfl)
theorem dX5_init_5 : decode cX5_init 5 = .ok (.new 9, 3) := dk_187 0 9 (dk_at dksX5_init_0 5 rfl rfl)
theorem dX5_init_8 : decode cX5_init 8 = .ok (.dup, 1) := dk_89 (dk_at dksX5_init_0 8 rfl rfl)
theorem dX5_init_9 : decode cX5_init 9 = .ok (.invokespecial 11, 3) := dk_183 0 11 (dk_at dksX5_init_0 9 rfl rfl)
theorem dX5_init_12 : decode cX5_init 12 = .ok (.putfield 12, 3) := dk_181 0 12 (dk_at dksX5_init_0 12 rfl rfl)
theorem dX5_init_15 : decode cX5_init 15 = .ok (.aload_n 0, 1) := dk_42 (dk_at dksX5_init_0 15 rfl rfl)
theorem dX5_init_16 : decode cX5_init 16 = .ok (.aload_n 1, 1) := dk_43 (dk_at dksX5_init_0 16 rfl rfl)
theorem dX5_init_17 : decode cX5_init 17 = .ok (.putfield 18, 3) := dk_181 0 18 (dk_at dksX5_init_0 17 rfl rfl)
theorem dX5_init_20 : decode cX5_init 20 = .ok (.aload_n 0, 1) := dk_42 (dk_at dksX5_init_0 20 rfl rfl)
theorem dX5_init_21 : decode cX5_init 21 = .ok (.iload_n 2, 1) := dk_28 (dk_at dksX5_init_0 21 rfl rfl)
theorem dX5_init_22 : decode cX5_init 22 = .ok (.putfield 22, 3) := dk_181 0 22 (dk_at dksX5_init_1 0 rfl rfl)
theorem dX5_init_25 : decode cX5_init 25 = .ok (.return_, 1) := dk_177 (dk_at dksX5_init_1 3 rfl rfl)
abbrev cX5_read : ByteArray := prog_13_method_37_code
def yX5_read : MethodName := ⟨RX5, "read", "()LTubBites$Water;"⟩
def dkwX5_read_1 : List UInt8 := [182, 0, 96, 167, 255, 235, 42, 180, 0, 12, 182, 1, 76, 42, 180, 0, 12, 176]
abbrev dktX5_read_1 : List UInt8 := dkwX5_read_1 ++ []
def dkwX5_read_0 : List UInt8 := [42, 182, 0, 93, 42, 180, 0, 36, 153, 0, 20, 42, 182, 1, 73, 42, 42, 16, 59, 182, 1, 15]
abbrev dktX5_read_0 : List UInt8 := dkwX5_read_0 ++ dktX5_read_1
theorem dksX5_read_0 : cX5_read.data.toList.drop 0 = dktX5_read_0 := by decide +kernel
theorem dksX5_read_1 : cX5_read.data.toList.drop 22 = dktX5_read_1 := dk_seg dksX5_read_0 22 rfl rfl
theorem dX5_read_0 : decode cX5_read 0 = .ok (.aload_n 0, 1) := dk_42 (dk_at dksX5_read_0 0 rfl rfl)
theorem dX5_read_1 : decode cX5_read 1 = .ok (.invokevirtual 93, 3) := dk_182 0 93 (dk_at dksX5_read_0 1 rfl rfl)
theorem dX5_read_4 : decode cX5_read 4 = .ok (.aload_n 0, 1) := dk_42 (dk_at dksX5_read_0 4 rfl rfl)
theorem dX5_read_5 : decode cX5_read 5 = .ok (.getfield 36, 3) := dk_180 0 36 (dk_at dksX5_read_0 5 rfl rfl)
theorem dX5_read_8 : decode cX5_read 8 = .ok (.ifCond .eq 20, 3) := dk_153 0 20 (dk_at dksX5_read_0 8 rfl rfl)
theorem dX5_read_11 : decode cX5_read 11 = .ok (.aload_n 0, 1) := dk_42 (dk_at dksX5_read_0 11 rfl rfl)
theorem dX5_read_12 : decode cX5_read 12 = .ok (.invokevirtual 329, 3) := dk_182 1 73 (dk_at dksX5_read_0 12 rfl rfl)
theorem dX5_read_15 : decode cX5_read 15 = .ok (.aload_n 0, 1) := dk_42 (dk_at dksX5_read_0 15 rfl rfl)
theorem dX5_read_16 : decode cX5_read 16 = .ok (.aload_n 0, 1) := dk_42 (dk_at dksX5_read_0 16 rfl rfl)
theorem dX5_read_17 : decode cX5_read 17 = .ok (.bipush 59, 2) := dk_16 59 (dk_at dksX5_read_0 17 rfl rfl)
theorem dX5_read_19 : decode cX5_read 19 = .ok (.invokevirtual 271, 3) := dk_182 1 15 (dk_at dksX5_read_0 19 rfl rfl)
theorem dX5_read_22 : decode cX5_read 22 = .ok (.invokevirtual 96, 3) := dk_182 0 96 (dk_at dksX5_read_1 0 rfl rfl)
theorem dX5_read_25 : decode cX5_read 25 = .ok (.goto (-21), 3) := dk_167 255 235 (dk_at dksX5_read_1 3 rfl rfl)
theorem dX5_read_28 : decode cX5_read 28 = .ok (.aload_n 0, 1) := dk_42 (dk_at dksX5_read_1 6 rfl rfl)
theorem dX5_read_29 : decode cX5_read 29 = .ok (.getfield 12, 3) := dk_180 0 12 (dk_at dksX5_read_1 7 rfl rfl)
theorem dX5_read_32 : decode cX5_read 32 = .ok (.invokevirtual 332, 3) := dk_182 1 76 (dk_at dksX5_read_1 10 rfl rfl)
theorem dX5_read_35 : decode cX5_read 35 = .ok (.aload_n 0, 1) := dk_42 (dk_at dksX5_read_1 13 rfl rfl)
theorem dX5_read_36 : decode cX5_read 36 = .ok (.getfield 12, 3) := dk_180 0 12 (dk_at dksX5_read_1 14 rfl rfl)
theorem dX5_read_39 : decode cX5_read 39 = .ok (.areturn, 1) := dk_176 (dk_at dksX5_read_1 17 rfl rfl)
abbrev cX5_next : ByteArray := prog_13_method_6_code
def yX5_next : MethodName := ⟨RX5, "next", "()V"⟩
def dkwX5_next_6 : List UInt8 := [167, 0, 19, 42, 27, 184, 0, 52, 153, 0, 7, 6, 167, 0, 4, 7, 181, 0, 36, 177]
abbrev dktX5_next_6 : List UInt8 := dkwX5_next_6 ++ []
def dkwX5_next_5 : List UInt8 := [184, 0, 39, 153, 0, 10, 42, 182, 0, 43, 167, 0, 33, 27, 184, 0, 46, 153, 0, 10, 42, 182, 0, 49]
abbrev dktX5_next_5 : List UInt8 := dkwX5_next_5 ++ dktX5_next_6
def dkwX5_next_4 : List UInt8 := [181, 0, 26, 42, 180, 0, 29, 42, 180, 0, 22, 161, 0, 11, 42, 3, 181, 0, 36, 167, 0, 47, 27]
abbrev dktX5_next_4 : List UInt8 := dkwX5_next_4 ++ dktX5_next_5
def dkwX5_next_3 : List UInt8 := [180, 0, 29, 42, 180, 0, 22, 162, 0, 12, 42, 180, 0, 29, 4, 96, 167, 0, 7, 42, 180, 0, 29]
abbrev dktX5_next_3 : List UInt8 := dkwX5_next_3 ++ dktX5_next_4
def dkwX5_next_2 : List UInt8 := [180, 0, 29, 4, 96, 181, 0, 29, 167, 255, 209, 42, 42, 180, 0, 29, 182, 0, 32, 60, 42, 42]
abbrev dktX5_next_2 : List UInt8 := dkwX5_next_2 ++ dktX5_next_3
def dkwX5_next_1 : List UInt8 := [182, 0, 32, 16, 32, 159, 0, 16, 42, 42, 180, 0, 29, 182, 0, 32, 16, 10, 160, 0, 16, 42, 89]
abbrev dktX5_next_1 : List UInt8 := dkwX5_next_1 ++ dktX5_next_2
def dkwX5_next_0 : List UInt8 := [42, 42, 180, 0, 26, 181, 0, 29, 42, 180, 0, 29, 42, 180, 0, 22, 162, 0, 42, 42, 42, 180, 0, 29]
abbrev dktX5_next_0 : List UInt8 := dkwX5_next_0 ++ dktX5_next_1
theorem dksX5_next_0 : cX5_next.data.toList.drop 0 = dktX5_next_0 := by decide +kernel
theorem dksX5_next_1 : cX5_next.data.toList.drop 24 = dktX5_next_1 := dk_seg dksX5_next_0 24 rfl rfl
theorem dksX5_next_2 : cX5_next.data.toList.drop 47 = dktX5_next_2 := dk_seg dksX5_next_1 23 rfl rfl
theorem dksX5_next_3 : cX5_next.data.toList.drop 69 = dktX5_next_3 := dk_seg dksX5_next_2 22 rfl rfl
theorem dksX5_next_4 : cX5_next.data.toList.drop 92 = dktX5_next_4 := dk_seg dksX5_next_3 23 rfl rfl
theorem dksX5_next_5 : cX5_next.data.toList.drop 115 = dktX5_next_5 := dk_seg dksX5_next_4 23 rfl rfl
theorem dksX5_next_6 : cX5_next.data.toList.drop 139 = dktX5_next_6 := dk_seg dksX5_next_5 24 rfl rfl
theorem dX5_next_0 : decode cX5_next 0 = .ok (.aload_n 0, 1) := dk_42 (dk_at dksX5_next_0 0 rfl rfl)
theorem dX5_next_1 : decode cX5_next 1 = .ok (.aload_n 0, 1) := dk_42 (dk_at dksX5_next_0 1 rfl rfl)
theorem dX5_next_2 : decode cX5_next 2 = .ok (.getfield 26, 3) := dk_180 0 26 (dk_at dksX5_next_0 2 rfl rfl)
theorem dX5_next_5 : decode cX5_next 5 = .ok (.putfield 29, 3) := dk_181 0 29 (dk_at dksX5_next_0 5 rfl rfl)
theorem dX5_next_8 : decode cX5_next 8 = .ok (.aload_n 0, 1) := dk_42 (dk_at dksX5_next_0 8 rfl rfl)
theorem dX5_next_9 : decode cX5_next 9 = .ok (.getfield 29, 3) := dk_180 0 29 (dk_at dksX5_next_0 9 rfl rfl)
theorem dX5_next_12 : decode cX5_next 12 = .ok (.aload_n 0, 1) := dk_42 (dk_at dksX5_next_0 12 rfl rfl)
theorem dX5_next_13 : decode cX5_next 13 = .ok (.getfield 22, 3) := dk_180 0 22 (dk_at dksX5_next_0 13 rfl rfl)
theorem dX5_next_16 : decode cX5_next 16 = .ok (.if_icmp .ge 42, 3) := dk_162 0 42 (dk_at dksX5_next_0 16 rfl rfl)
theorem dX5_next_19 : decode cX5_next 19 = .ok (.aload_n 0, 1) := dk_42 (dk_at dksX5_next_0 19 rfl rfl)
theorem dX5_next_20 : decode cX5_next 20 = .ok (.aload_n 0, 1) := dk_42 (dk_at dksX5_next_0 20 rfl rfl)
theorem dX5_next_21 : decode cX5_next 21 = .ok (.getfield 29, 3) := dk_180 0 29 (dk_at dksX5_next_0 21 rfl rfl)
theorem dX5_next_24 : decode cX5_next 24 = .ok (.invokevirtual 32, 3) := dk_182 0 32 (dk_at dksX5_next_1 0 rfl rfl)
theorem dX5_next_27 : decode cX5_next 27 = .ok (.bipush 32, 2) := dk_16 32 (dk_at dksX5_next_1 3 rfl rfl)
theorem dX5_next_29 : decode cX5_next 29 = .ok (.if_icmp .eq 16, 3) := dk_159 0 16 (dk_at dksX5_next_1 5 rfl rfl)
theorem dX5_next_32 : decode cX5_next 32 = .ok (.aload_n 0, 1) := dk_42 (dk_at dksX5_next_1 8 rfl rfl)
theorem dX5_next_33 : decode cX5_next 33 = .ok (.aload_n 0, 1) := dk_42 (dk_at dksX5_next_1 9 rfl rfl)
theorem dX5_next_34 : decode cX5_next 34 = .ok (.getfield 29, 3) := dk_180 0 29 (dk_at dksX5_next_1 10 rfl rfl)
theorem dX5_next_37 : decode cX5_next 37 = .ok (.invokevirtual 32, 3) := dk_182 0 32 (dk_at dksX5_next_1 13 rfl rfl)
theorem dX5_next_40 : decode cX5_next 40 = .ok (.bipush 10, 2) := dk_16 10 (dk_at dksX5_next_1 16 rfl rfl)
theorem dX5_next_42 : decode cX5_next 42 = .ok (.if_icmp .ne 16, 3) := dk_160 0 16 (dk_at dksX5_next_1 18 rfl rfl)
theorem dX5_next_45 : decode cX5_next 45 = .ok (.aload_n 0, 1) := dk_42 (dk_at dksX5_next_1 21 rfl rfl)
theorem dX5_next_46 : decode cX5_next 46 = .ok (.dup, 1) := dk_89 (dk_at dksX5_next_1 22 rfl rfl)
theorem dX5_next_47 : decode cX5_next 47 = .ok (.getfield 29, 3) := dk_180 0 29 (dk_at dksX5_next_2 0 rfl rfl)
theorem dX5_next_50 : decode cX5_next 50 = .ok (.iconst 1, 1) := dk_4 (dk_at dksX5_next_2 3 rfl rfl)
theorem dX5_next_51 : decode cX5_next 51 = .ok (.iadd, 1) := dk_96 (dk_at dksX5_next_2 4 rfl rfl)
theorem dX5_next_52 : decode cX5_next 52 = .ok (.putfield 29, 3) := dk_181 0 29 (dk_at dksX5_next_2 5 rfl rfl)
theorem dX5_next_55 : decode cX5_next 55 = .ok (.goto (-47), 3) := dk_167 255 209 (dk_at dksX5_next_2 8 rfl rfl)
theorem dX5_next_58 : decode cX5_next 58 = .ok (.aload_n 0, 1) := dk_42 (dk_at dksX5_next_2 11 rfl rfl)
theorem dX5_next_59 : decode cX5_next 59 = .ok (.aload_n 0, 1) := dk_42 (dk_at dksX5_next_2 12 rfl rfl)
theorem dX5_next_60 : decode cX5_next 60 = .ok (.getfield 29, 3) := dk_180 0 29 (dk_at dksX5_next_2 13 rfl rfl)
theorem dX5_next_63 : decode cX5_next 63 = .ok (.invokevirtual 32, 3) := dk_182 0 32 (dk_at dksX5_next_2 16 rfl rfl)
theorem dX5_next_66 : decode cX5_next 66 = .ok (.istore_n 1, 1) := dk_60 (dk_at dksX5_next_2 19 rfl rfl)
theorem dX5_next_67 : decode cX5_next 67 = .ok (.aload_n 0, 1) := dk_42 (dk_at dksX5_next_2 20 rfl rfl)
theorem dX5_next_68 : decode cX5_next 68 = .ok (.aload_n 0, 1) := dk_42 (dk_at dksX5_next_2 21 rfl rfl)
theorem dX5_next_69 : decode cX5_next 69 = .ok (.getfield 29, 3) := dk_180 0 29 (dk_at dksX5_next_3 0 rfl rfl)
theorem dX5_next_72 : decode cX5_next 72 = .ok (.aload_n 0, 1) := dk_42 (dk_at dksX5_next_3 3 rfl rfl)
theorem dX5_next_73 : decode cX5_next 73 = .ok (.getfield 22, 3) := dk_180 0 22 (dk_at dksX5_next_3 4 rfl rfl)
theorem dX5_next_76 : decode cX5_next 76 = .ok (.if_icmp .ge 12, 3) := dk_162 0 12 (dk_at dksX5_next_3 7 rfl rfl)
theorem dX5_next_79 : decode cX5_next 79 = .ok (.aload_n 0, 1) := dk_42 (dk_at dksX5_next_3 10 rfl rfl)
theorem dX5_next_80 : decode cX5_next 80 = .ok (.getfield 29, 3) := dk_180 0 29 (dk_at dksX5_next_3 11 rfl rfl)
theorem dX5_next_83 : decode cX5_next 83 = .ok (.iconst 1, 1) := dk_4 (dk_at dksX5_next_3 14 rfl rfl)
theorem dX5_next_84 : decode cX5_next 84 = .ok (.iadd, 1) := dk_96 (dk_at dksX5_next_3 15 rfl rfl)
theorem dX5_next_85 : decode cX5_next 85 = .ok (.goto 7, 3) := dk_167 0 7 (dk_at dksX5_next_3 16 rfl rfl)
theorem dX5_next_88 : decode cX5_next 88 = .ok (.aload_n 0, 1) := dk_42 (dk_at dksX5_next_3 19 rfl rfl)
theorem dX5_next_89 : decode cX5_next 89 = .ok (.getfield 29, 3) := dk_180 0 29 (dk_at dksX5_next_3 20 rfl rfl)
theorem dX5_next_92 : decode cX5_next 92 = .ok (.putfield 26, 3) := dk_181 0 26 (dk_at dksX5_next_4 0 rfl rfl)
theorem dX5_next_95 : decode cX5_next 95 = .ok (.aload_n 0, 1) := dk_42 (dk_at dksX5_next_4 3 rfl rfl)
theorem dX5_next_96 : decode cX5_next 96 = .ok (.getfield 29, 3) := dk_180 0 29 (dk_at dksX5_next_4 4 rfl rfl)
theorem dX5_next_99 : decode cX5_next 99 = .ok (.aload_n 0, 1) := dk_42 (dk_at dksX5_next_4 7 rfl rfl)
theorem dX5_next_100 : decode cX5_next 100 = .ok (.getfield 22, 3) := dk_180 0 22 (dk_at dksX5_next_4 8 rfl rfl)
theorem dX5_next_103 : decode cX5_next 103 = .ok (.if_icmp .lt 11, 3) := dk_161 0 11 (dk_at dksX5_next_4 11 rfl rfl)
theorem dX5_next_106 : decode cX5_next 106 = .ok (.aload_n 0, 1) := dk_42 (dk_at dksX5_next_4 14 rfl rfl)
theorem dX5_next_107 : decode cX5_next 107 = .ok (.iconst 0, 1) := dk_3 (dk_at dksX5_next_4 15 rfl rfl)
theorem dX5_next_108 : decode cX5_next 108 = .ok (.putfield 36, 3) := dk_181 0 36 (dk_at dksX5_next_4 16 rfl rfl)
theorem dX5_next_111 : decode cX5_next 111 = .ok (.goto 47, 3) := dk_167 0 47 (dk_at dksX5_next_4 19 rfl rfl)
theorem dX5_next_114 : decode cX5_next 114 = .ok (.iload_n 1, 1) := dk_27 (dk_at dksX5_next_4 22 rfl rfl)
theorem dX5_next_115 : decode cX5_next 115 = .ok (.invokestatic 39, 3) := dk_184 0 39 (dk_at dksX5_next_5 0 rfl rfl)
theorem dX5_next_118 : decode cX5_next 118 = .ok (.ifCond .eq 10, 3) := dk_153 0 10 (dk_at dksX5_next_5 3 rfl rfl)
theorem dX5_next_121 : decode cX5_next 121 = .ok (.aload_n 0, 1) := dk_42 (dk_at dksX5_next_5 6 rfl rfl)
theorem dX5_next_122 : decode cX5_next 122 = .ok (.invokevirtual 43, 3) := dk_182 0 43 (dk_at dksX5_next_5 7 rfl rfl)
theorem dX5_next_125 : decode cX5_next 125 = .ok (.goto 33, 3) := dk_167 0 33 (dk_at dksX5_next_5 10 rfl rfl)
theorem dX5_next_128 : decode cX5_next 128 = .ok (.iload_n 1, 1) := dk_27 (dk_at dksX5_next_5 13 rfl rfl)
theorem dX5_next_129 : decode cX5_next 129 = .ok (.invokestatic 46, 3) := dk_184 0 46 (dk_at dksX5_next_5 14 rfl rfl)
theorem dX5_next_132 : decode cX5_next 132 = .ok (.ifCond .eq 10, 3) := dk_153 0 10 (dk_at dksX5_next_5 17 rfl rfl)
theorem dX5_next_135 : decode cX5_next 135 = .ok (.aload_n 0, 1) := dk_42 (dk_at dksX5_next_5 20 rfl rfl)
theorem dX5_next_136 : decode cX5_next 136 = .ok (.invokevirtual 49, 3) := dk_182 0 49 (dk_at dksX5_next_5 21 rfl rfl)
theorem dX5_next_139 : decode cX5_next 139 = .ok (.goto 19, 3) := dk_167 0 19 (dk_at dksX5_next_6 0 rfl rfl)
theorem dX5_next_142 : decode cX5_next 142 = .ok (.aload_n 0, 1) := dk_42 (dk_at dksX5_next_6 3 rfl rfl)
theorem dX5_next_143 : decode cX5_next 143 = .ok (.iload_n 1, 1) := dk_27 (dk_at dksX5_next_6 4 rfl rfl)
theorem dX5_next_144 : decode cX5_next 144 = .ok (.invokestatic 52, 3) := dk_184 0 52 (dk_at dksX5_next_6 5 rfl rfl)
theorem dX5_next_147 : decode cX5_next 147 = .ok (.ifCond .eq 7, 3) := dk_153 0 7 (dk_at dksX5_next_6 8 rfl rfl)
theorem dX5_next_150 : decode cX5_next 150 = .ok (.iconst 3, 1) := dk_6 (dk_at dksX5_next_6 11 rfl rfl)
theorem dX5_next_151 : decode cX5_next 151 = .ok (.goto 4, 3) := dk_167 0 4 (dk_at dksX5_next_6 12 rfl rfl)
theorem dX5_next_154 : decode cX5_next 154 = .ok (.iconst 4, 1) := dk_7 (dk_at dksX5_next_6 15 rfl rfl)
theorem dX5_next_155 : decode cX5_next 155 = .ok (.putfield 36, 3) := dk_181 0 36 (dk_at dksX5_next_6 16 rfl rfl)
theorem dX5_next_158 : decode cX5_next 158 = .ok (.return_, 1) := dk_177 (dk_at dksX5_next_6 19 rfl rfl)
abbrev cX5_sign : ByteArray := prog_13_method_2_code
def yX5_sign : MethodName := ⟨RX5, "sign", "(I)I"⟩
def dkwX5_sign_0 : List UInt8 := [27, 42, 180, 0, 22, 162, 0, 16, 42, 180, 0, 18, 27, 51, 17, 0, 255, 126, 167, 0, 4, 3, 172]
abbrev dktX5_sign_0 : List UInt8 := dkwX5_sign_0 ++ []
theorem dksX5_sign_0 : cX5_sign.data.toList.drop 0 = dktX5_sign_0 := by decide +kernel
theorem dX5_sign_0 : decode cX5_sign 0 = .ok (.iload_n 1, 1) := dk_27 (dk_at dksX5_sign_0 0 rfl rfl)
theorem dX5_sign_1 : decode cX5_sign 1 = .ok (.aload_n 0, 1) := dk_42 (dk_at dksX5_sign_0 1 rfl rfl)
theorem dX5_sign_2 : decode cX5_sign 2 = .ok (.getfield 22, 3) := dk_180 0 22 (dk_at dksX5_sign_0 2 rfl rfl)
theorem dX5_sign_5 : decode cX5_sign 5 = .ok (.if_icmp .ge 16, 3) := dk_162 0 16 (dk_at dksX5_sign_0 5 rfl rfl)
theorem dX5_sign_8 : decode cX5_sign 8 = .ok (.aload_n 0, 1) := dk_42 (dk_at dksX5_sign_0 8 rfl rfl)
theorem dX5_sign_9 : decode cX5_sign 9 = .ok (.getfield 18, 3) := dk_180 0 18 (dk_at dksX5_sign_0 9 rfl rfl)
theorem dX5_sign_12 : decode cX5_sign 12 = .ok (.iload_n 1, 1) := dk_27 (dk_at dksX5_sign_0 12 rfl rfl)
theorem dX5_sign_13 : decode cX5_sign 13 = .ok (.baload, 1) := dk_51 (dk_at dksX5_sign_0 13 rfl rfl)
theorem dX5_sign_14 : decode cX5_sign 14 = .ok (.sipush 255, 3) := dk_17 0 255 (dk_at dksX5_sign_0 14 rfl rfl)
theorem dX5_sign_17 : decode cX5_sign 17 = .ok (.iand, 1) := dk_126 (dk_at dksX5_sign_0 17 rfl rfl)
theorem dX5_sign_18 : decode cX5_sign 18 = .ok (.goto 4, 3) := dk_167 0 4 (dk_at dksX5_sign_0 18 rfl rfl)
theorem dX5_sign_21 : decode cX5_sign 21 = .ok (.iconst 0, 1) := dk_3 (dk_at dksX5_sign_0 21 rfl rfl)
theorem dX5_sign_22 : decode cX5_sign 22 = .ok (.ireturn, 1) := dk_172 (dk_at dksX5_sign_0 22 rfl rfl)
abbrev cX5_isLetter : ByteArray := prog_13_method_3_code
def yX5_isLetter : MethodName := ⟨RX5, "isLetter", "(I)Z"⟩
def dkwX5_isLetter_0 : List UInt8 := [26, 16, 97, 161, 0, 13, 26, 16, 122, 163, 0, 7, 4, 167, 0, 4, 3, 172]
abbrev dktX5_isLetter_0 : List UInt8 := dkwX5_isLetter_0 ++ []
theorem dksX5_isLetter_0 : cX5_isLetter.data.toList.drop 0 = dktX5_isLetter_0 := by decide +kernel
theorem dX5_isLetter_0 : decode cX5_isLetter 0 = .ok (.iload_n 0, 1) := dk_26 (dk_at dksX5_isLetter_0 0 rfl rfl)
theorem dX5_isLetter_1 : decode cX5_isLetter 1 = .ok (.bipush 97, 2) := dk_16 97 (dk_at dksX5_isLetter_0 1 rfl rfl)
theorem dX5_isLetter_3 : decode cX5_isLetter 3 = .ok (.if_icmp .lt 13, 3) := dk_161 0 13 (dk_at dksX5_isLetter_0 3 rfl rfl)
theorem dX5_isLetter_6 : decode cX5_isLetter 6 = .ok (.iload_n 0, 1) := dk_26 (dk_at dksX5_isLetter_0 6 rfl rfl)
theorem dX5_isLetter_7 : decode cX5_isLetter 7 = .ok (.bipush 122, 2) := dk_16 122 (dk_at dksX5_isLetter_0 7 rfl rfl)
theorem dX5_isLetter_9 : decode cX5_isLetter 9 = .ok (.if_icmp .gt 7, 3) := dk_163 0 7 (dk_at dksX5_isLetter_0 9 rfl rfl)
theorem dX5_isLetter_12 : decode cX5_isLetter 12 = .ok (.iconst 1, 1) := dk_4 (dk_at dksX5_isLetter_0 12 rfl rfl)
theorem dX5_isLetter_13 : decode cX5_isLetter 13 = .ok (.goto 4, 3) := dk_167 0 4 (dk_at dksX5_isLetter_0 13 rfl rfl)
theorem dX5_isLetter_16 : decode cX5_isLetter 16 = .ok (.iconst 0, 1) := dk_3 (dk_at dksX5_isLetter_0 16 rfl rfl)
theorem dX5_isLetter_17 : decode cX5_isLetter 17 = .ok (.ireturn, 1) := dk_172 (dk_at dksX5_isLetter_0 17 rfl rfl)
abbrev cX5_readWord : ByteArray := prog_13_method_7_code
def yX5_readWord : MethodName := ⟨RX5, "readWord", "()V"⟩
def dkwX5_readWord_4 : List UInt8 := [100, 16, 8, 164, 0, 8, 42, 7, 181, 0, 36, 177]
abbrev dktX5_readWord_4 : List UInt8 := dkwX5_readWord_4 ++ []
def dkwX5_readWord_3 : List UInt8 := [181, 0, 55, 42, 89, 180, 0, 26, 4, 96, 181, 0, 26, 167, 255, 190, 42, 180, 0, 26, 42, 180, 0, 29]
abbrev dktX5_readWord_3 : List UInt8 := dkwX5_readWord_3 ++ dktX5_readWord_4
def dkwX5_readWord_2 : List UInt8 := [42, 180, 0, 55, 16, 8, 121, 42, 42, 180, 0, 26, 182, 0, 32, 133, 129, 167, 0, 7, 42, 180, 0, 55]
abbrev dktX5_readWord_2 : List UInt8 := dkwX5_readWord_2 ++ dktX5_readWord_3
def dkwX5_readWord_1 : List UInt8 := [182, 0, 32, 184, 0, 39, 153, 0, 58, 42, 42, 180, 0, 26, 42, 180, 0, 29, 100, 16, 8, 162, 0, 23]
abbrev dktX5_readWord_1 : List UInt8 := dkwX5_readWord_1 ++ dktX5_readWord_2
def dkwX5_readWord_0 : List UInt8 := [42, 4, 181, 0, 36, 42, 9, 181, 0, 55, 42, 42, 180, 0, 29, 181, 0, 26, 42, 42, 180, 0, 26]
abbrev dktX5_readWord_0 : List UInt8 := dkwX5_readWord_0 ++ dktX5_readWord_1
theorem dksX5_readWord_0 : cX5_readWord.data.toList.drop 0 = dktX5_readWord_0 := by decide +kernel
theorem dksX5_readWord_1 : cX5_readWord.data.toList.drop 23 = dktX5_readWord_1 := dk_seg dksX5_readWord_0 23 rfl rfl
theorem dksX5_readWord_2 : cX5_readWord.data.toList.drop 47 = dktX5_readWord_2 := dk_seg dksX5_readWord_1 24 rfl rfl
theorem dksX5_readWord_3 : cX5_readWord.data.toList.drop 71 = dktX5_readWord_3 := dk_seg dksX5_readWord_2 24 rfl rfl
theorem dksX5_readWord_4 : cX5_readWord.data.toList.drop 95 = dktX5_readWord_4 := dk_seg dksX5_readWord_3 24 rfl rfl
theorem dX5_readWord_0 : decode cX5_readWord 0 = .ok (.aload_n 0, 1) := dk_42 (dk_at dksX5_readWord_0 0 rfl rfl)
theorem dX5_readWord_1 : decode cX5_readWord 1 = .ok (.iconst 1, 1) := dk_4 (dk_at dksX5_readWord_0 1 rfl rfl)
theorem dX5_readWord_2 : decode cX5_readWord 2 = .ok (.putfield 36, 3) := dk_181 0 36 (dk_at dksX5_readWord_0 2 rfl rfl)
theorem dX5_readWord_5 : decode cX5_readWord 5 = .ok (.aload_n 0, 1) := dk_42 (dk_at dksX5_readWord_0 5 rfl rfl)
theorem dX5_readWord_6 : decode cX5_readWord 6 = .ok (.lconst 0, 1) := dk_9 (dk_at dksX5_readWord_0 6 rfl rfl)
theorem dX5_readWord_7 : decode cX5_readWord 7 = .ok (.putfield 55, 3) := dk_181 0 55 (dk_at dksX5_readWord_0 7 rfl rfl)
theorem dX5_readWord_10 : decode cX5_readWord 10 = .ok (.aload_n 0, 1) := dk_42 (dk_at dksX5_readWord_0 10 rfl rfl)
theorem dX5_readWord_11 : decode cX5_readWord 11 = .ok (.aload_n 0, 1) := dk_42 (dk_at dksX5_readWord_0 11 rfl rfl)
theorem dX5_readWord_12 : decode cX5_readWord 12 = .ok (.getfield 29, 3) := dk_180 0 29 (dk_at dksX5_readWord_0 12 rfl rfl)
theorem dX5_readWord_15 : decode cX5_readWord 15 = .ok (.putfield 26, 3) := dk_181 0 26 (dk_at dksX5_readWord_0 15 rfl rfl)
theorem dX5_readWord_18 : decode cX5_readWord 18 = .ok (.aload_n 0, 1) := dk_42 (dk_at dksX5_readWord_0 18 rfl rfl)
theorem dX5_readWord_19 : decode cX5_readWord 19 = .ok (.aload_n 0, 1) := dk_42 (dk_at dksX5_readWord_0 19 rfl rfl)
theorem dX5_readWord_20 : decode cX5_readWord 20 = .ok (.getfield 26, 3) := dk_180 0 26 (dk_at dksX5_readWord_0 20 rfl rfl)
theorem dX5_readWord_23 : decode cX5_readWord 23 = .ok (.invokevirtual 32, 3) := dk_182 0 32 (dk_at dksX5_readWord_1 0 rfl rfl)
theorem dX5_readWord_26 : decode cX5_readWord 26 = .ok (.invokestatic 39, 3) := dk_184 0 39 (dk_at dksX5_readWord_1 3 rfl rfl)
theorem dX5_readWord_29 : decode cX5_readWord 29 = .ok (.ifCond .eq 58, 3) := dk_153 0 58 (dk_at dksX5_readWord_1 6 rfl rfl)
theorem dX5_readWord_32 : decode cX5_readWord 32 = .ok (.aload_n 0, 1) := dk_42 (dk_at dksX5_readWord_1 9 rfl rfl)
theorem dX5_readWord_33 : decode cX5_readWord 33 = .ok (.aload_n 0, 1) := dk_42 (dk_at dksX5_readWord_1 10 rfl rfl)
theorem dX5_readWord_34 : decode cX5_readWord 34 = .ok (.getfield 26, 3) := dk_180 0 26 (dk_at dksX5_readWord_1 11 rfl rfl)
theorem dX5_readWord_37 : decode cX5_readWord 37 = .ok (.aload_n 0, 1) := dk_42 (dk_at dksX5_readWord_1 14 rfl rfl)
theorem dX5_readWord_38 : decode cX5_readWord 38 = .ok (.getfield 29, 3) := dk_180 0 29 (dk_at dksX5_readWord_1 15 rfl rfl)
theorem dX5_readWord_41 : decode cX5_readWord 41 = .ok (.isub, 1) := dk_100 (dk_at dksX5_readWord_1 18 rfl rfl)
theorem dX5_readWord_42 : decode cX5_readWord 42 = .ok (.bipush 8, 2) := dk_16 8 (dk_at dksX5_readWord_1 19 rfl rfl)
theorem dX5_readWord_44 : decode cX5_readWord 44 = .ok (.if_icmp .ge 23, 3) := dk_162 0 23 (dk_at dksX5_readWord_1 21 rfl rfl)
theorem dX5_readWord_47 : decode cX5_readWord 47 = .ok (.aload_n 0, 1) := dk_42 (dk_at dksX5_readWord_2 0 rfl rfl)
theorem dX5_readWord_48 : decode cX5_readWord 48 = .ok (.getfield 55, 3) := dk_180 0 55 (dk_at dksX5_readWord_2 1 rfl rfl)
theorem dX5_readWord_51 : decode cX5_readWord 51 = .ok (.bipush 8, 2) := dk_16 8 (dk_at dksX5_readWord_2 4 rfl rfl)
theorem dX5_readWord_53 : decode cX5_readWord 53 = .ok (.lshl, 1) := dk_121 (dk_at dksX5_readWord_2 6 rfl rfl)
theorem dX5_readWord_54 : decode cX5_readWord 54 = .ok (.aload_n 0, 1) := dk_42 (dk_at dksX5_readWord_2 7 rfl rfl)
theorem dX5_readWord_55 : decode cX5_readWord 55 = .ok (.aload_n 0, 1) := dk_42 (dk_at dksX5_readWord_2 8 rfl rfl)
theorem dX5_readWord_56 : decode cX5_readWord 56 = .ok (.getfield 26, 3) := dk_180 0 26 (dk_at dksX5_readWord_2 9 rfl rfl)
theorem dX5_readWord_59 : decode cX5_readWord 59 = .ok (.invokevirtual 32, 3) := dk_182 0 32 (dk_at dksX5_readWord_2 12 rfl rfl)
theorem dX5_readWord_62 : decode cX5_readWord 62 = .ok (.i2l, 1) := dk_133 (dk_at dksX5_readWord_2 15 rfl rfl)
theorem dX5_readWord_63 : decode cX5_readWord 63 = .ok (.lor, 1) := dk_129 (dk_at dksX5_readWord_2 16 rfl rfl)
theorem dX5_readWord_64 : decode cX5_readWord 64 = .ok (.goto 7, 3) := dk_167 0 7 (dk_at dksX5_readWord_2 17 rfl rfl)
theorem dX5_readWord_67 : decode cX5_readWord 67 = .ok (.aload_n 0, 1) := dk_42 (dk_at dksX5_readWord_2 20 rfl rfl)
theorem dX5_readWord_68 : decode cX5_readWord 68 = .ok (.getfield 55, 3) := dk_180 0 55 (dk_at dksX5_readWord_2 21 rfl rfl)
theorem dX5_readWord_71 : decode cX5_readWord 71 = .ok (.putfield 55, 3) := dk_181 0 55 (dk_at dksX5_readWord_3 0 rfl rfl)
theorem dX5_readWord_74 : decode cX5_readWord 74 = .ok (.aload_n 0, 1) := dk_42 (dk_at dksX5_readWord_3 3 rfl rfl)
theorem dX5_readWord_75 : decode cX5_readWord 75 = .ok (.dup, 1) := dk_89 (dk_at dksX5_readWord_3 4 rfl rfl)
theorem dX5_readWord_76 : decode cX5_readWord 76 = .ok (.getfield 26, 3) := dk_180 0 26 (dk_at dksX5_readWord_3 5 rfl rfl)
theorem dX5_readWord_79 : decode cX5_readWord 79 = .ok (.iconst 1, 1) := dk_4 (dk_at dksX5_readWord_3 8 rfl rfl)
theorem dX5_readWord_80 : decode cX5_readWord 80 = .ok (.iadd, 1) := dk_96 (dk_at dksX5_readWord_3 9 rfl rfl)
theorem dX5_readWord_81 : decode cX5_readWord 81 = .ok (.putfield 26, 3) := dk_181 0 26 (dk_at dksX5_readWord_3 10 rfl rfl)
theorem dX5_readWord_84 : decode cX5_readWord 84 = .ok (.goto (-66), 3) := dk_167 255 190 (dk_at dksX5_readWord_3 13 rfl rfl)
theorem dX5_readWord_87 : decode cX5_readWord 87 = .ok (.aload_n 0, 1) := dk_42 (dk_at dksX5_readWord_3 16 rfl rfl)
theorem dX5_readWord_88 : decode cX5_readWord 88 = .ok (.getfield 26, 3) := dk_180 0 26 (dk_at dksX5_readWord_3 17 rfl rfl)
theorem dX5_readWord_91 : decode cX5_readWord 91 = .ok (.aload_n 0, 1) := dk_42 (dk_at dksX5_readWord_3 20 rfl rfl)
theorem dX5_readWord_92 : decode cX5_readWord 92 = .ok (.getfield 29, 3) := dk_180 0 29 (dk_at dksX5_readWord_3 21 rfl rfl)
theorem dX5_readWord_95 : decode cX5_readWord 95 = .ok (.isub, 1) := dk_100 (dk_at dksX5_readWord_4 0 rfl rfl)
theorem dX5_readWord_96 : decode cX5_readWord 96 = .ok (.bipush 8, 2) := dk_16 8 (dk_at dksX5_readWord_4 1 rfl rfl)
theorem dX5_readWord_98 : decode cX5_readWord 98 = .ok (.if_icmp .le 8, 3) := dk_164 0 8 (dk_at dksX5_readWord_4 3 rfl rfl)
theorem dX5_readWord_101 : decode cX5_readWord 101 = .ok (.aload_n 0, 1) := dk_42 (dk_at dksX5_readWord_4 6 rfl rfl)
theorem dX5_readWord_102 : decode cX5_readWord 102 = .ok (.iconst 4, 1) := dk_7 (dk_at dksX5_readWord_4 7 rfl rfl)
theorem dX5_readWord_103 : decode cX5_readWord 103 = .ok (.putfield 36, 3) := dk_181 0 36 (dk_at dksX5_readWord_4 8 rfl rfl)
theorem dX5_readWord_106 : decode cX5_readWord 106 = .ok (.return_, 1) := dk_177 (dk_at dksX5_readWord_4 11 rfl rfl)
abbrev cX5_isDigit : ByteArray := prog_13_method_4_code
def yX5_isDigit : MethodName := ⟨RX5, "isDigit", "(I)Z"⟩
def dkwX5_isDigit_0 : List UInt8 := [26, 16, 48, 161, 0, 13, 26, 16, 57, 163, 0, 7, 4, 167, 0, 4, 3, 172]
abbrev dktX5_isDigit_0 : List UInt8 := dkwX5_isDigit_0 ++ []
theorem dksX5_isDigit_0 : cX5_isDigit.data.toList.drop 0 = dktX5_isDigit_0 := by decide +kernel
theorem dX5_isDigit_0 : decode cX5_isDigit 0 = .ok (.iload_n 0, 1) := dk_26 (dk_at dksX5_isDigit_0 0 rfl rfl)
theorem dX5_isDigit_1 : decode cX5_isDigit 1 = .ok (.bipush 48, 2) := dk_16 48 (dk_at dksX5_isDigit_0 1 rfl rfl)
theorem dX5_isDigit_3 : decode cX5_isDigit 3 = .ok (.if_icmp .lt 13, 3) := dk_161 0 13 (dk_at dksX5_isDigit_0 3 rfl rfl)
theorem dX5_isDigit_6 : decode cX5_isDigit 6 = .ok (.iload_n 0, 1) := dk_26 (dk_at dksX5_isDigit_0 6 rfl rfl)
theorem dX5_isDigit_7 : decode cX5_isDigit 7 = .ok (.bipush 57, 2) := dk_16 57 (dk_at dksX5_isDigit_0 7 rfl rfl)
theorem dX5_isDigit_9 : decode cX5_isDigit 9 = .ok (.if_icmp .gt 7, 3) := dk_163 0 7 (dk_at dksX5_isDigit_0 9 rfl rfl)
theorem dX5_isDigit_12 : decode cX5_isDigit 12 = .ok (.iconst 1, 1) := dk_4 (dk_at dksX5_isDigit_0 12 rfl rfl)
theorem dX5_isDigit_13 : decode cX5_isDigit 13 = .ok (.goto 4, 3) := dk_167 0 4 (dk_at dksX5_isDigit_0 13 rfl rfl)
theorem dX5_isDigit_16 : decode cX5_isDigit 16 = .ok (.iconst 0, 1) := dk_3 (dk_at dksX5_isDigit_0 16 rfl rfl)
theorem dX5_isDigit_17 : decode cX5_isDigit 17 = .ok (.ireturn, 1) := dk_172 (dk_at dksX5_isDigit_0 17 rfl rfl)
abbrev cX5_readNumber : ByteArray := prog_13_method_8_code
def yX5_readNumber : MethodName := ⟨RX5, "readNumber", "()V"⟩
def dkwX5_readNumber_5 : List UInt8 := [181, 0, 36, 177]
abbrev dktX5_readNumber_5 : List UInt8 := dkwX5_readNumber_5 ++ []
def dkwX5_readNumber_4 : List UInt8 := [180, 0, 29, 100, 7, 163, 0, 17, 42, 42, 180, 0, 26, 182, 0, 32, 184, 0, 39, 153, 0, 8, 42, 7]
abbrev dktX5_readNumber_4 : List UInt8 := dkwX5_readNumber_4 ++ dktX5_readNumber_5
def dkwX5_readNumber_3 : List UInt8 := [180, 0, 59, 181, 0, 59, 42, 89, 180, 0, 26, 4, 96, 181, 0, 26, 167, 255, 189, 42, 180, 0, 26, 42]
abbrev dktX5_readNumber_3 : List UInt8 := dkwX5_readNumber_3 ++ dktX5_readNumber_4
def dkwX5_readNumber_2 : List UInt8 := [16, 10, 42, 180, 0, 59, 104, 42, 42, 180, 0, 26, 182, 0, 32, 96, 16, 48, 100, 167, 0, 7, 42]
abbrev dktX5_readNumber_2 : List UInt8 := dkwX5_readNumber_2 ++ dktX5_readNumber_3
def dkwX5_readNumber_1 : List UInt8 := [182, 0, 32, 184, 0, 46, 153, 0, 59, 42, 42, 180, 0, 26, 42, 180, 0, 29, 100, 7, 162, 0, 25]
abbrev dktX5_readNumber_1 : List UInt8 := dkwX5_readNumber_1 ++ dktX5_readNumber_2
def dkwX5_readNumber_0 : List UInt8 := [42, 5, 181, 0, 36, 42, 3, 181, 0, 59, 42, 42, 180, 0, 29, 181, 0, 26, 42, 42, 180, 0, 26]
abbrev dktX5_readNumber_0 : List UInt8 := dkwX5_readNumber_0 ++ dktX5_readNumber_1
theorem dksX5_readNumber_0 : cX5_readNumber.data.toList.drop 0 = dktX5_readNumber_0 := by decide +kernel
theorem dksX5_readNumber_1 : cX5_readNumber.data.toList.drop 23 = dktX5_readNumber_1 := dk_seg dksX5_readNumber_0 23 rfl rfl
theorem dksX5_readNumber_2 : cX5_readNumber.data.toList.drop 46 = dktX5_readNumber_2 := dk_seg dksX5_readNumber_1 23 rfl rfl
theorem dksX5_readNumber_3 : cX5_readNumber.data.toList.drop 69 = dktX5_readNumber_3 := dk_seg dksX5_readNumber_2 23 rfl rfl
theorem dksX5_readNumber_4 : cX5_readNumber.data.toList.drop 93 = dktX5_readNumber_4 := dk_seg dksX5_readNumber_3 24 rfl rfl
theorem dksX5_readNumber_5 : cX5_readNumber.data.toList.drop 117 = dktX5_readNumber_5 := dk_seg dksX5_readNumber_4 24 rfl rfl
theorem dX5_readNumber_0 : decode cX5_readNumber 0 = .ok (.aload_n 0, 1) := dk_42 (dk_at dksX5_readNumber_0 0 rfl rfl)
theorem dX5_readNumber_1 : decode cX5_readNumber 1 = .ok (.iconst 2, 1) := dk_5 (dk_at dksX5_readNumber_0 1 rfl rfl)
theorem dX5_readNumber_2 : decode cX5_readNumber 2 = .ok (.putfield 36, 3) := dk_181 0 36 (dk_at dksX5_readNumber_0 2 rfl rfl)
theorem dX5_readNumber_5 : decode cX5_readNumber 5 = .ok (.aload_n 0, 1) := dk_42 (dk_at dksX5_readNumber_0 5 rfl rfl)
theorem dX5_readNumber_6 : decode cX5_readNumber 6 = .ok (.iconst 0, 1) := dk_3 (dk_at dksX5_readNumber_0 6 rfl rfl)
theorem dX5_readNumber_7 : decode cX5_readNumber 7 = .ok (.putfield 59, 3) := dk_181 0 59 (dk_at dksX5_readNumber_0 7 rfl rfl)
theorem dX5_readNumber_10 : decode cX5_readNumber 10 = .ok (.aload_n 0, 1) := dk_42 (dk_at dksX5_readNumber_0 10 rfl rfl)
theorem dX5_readNumber_11 : decode cX5_readNumber 11 = .ok (.aload_n 0, 1) := dk_42 (dk_at dksX5_readNumber_0 11 rfl rfl)
theorem dX5_readNumber_12 : decode cX5_readNumber 12 = .ok (.getfield 29, 3) := dk_180 0 29 (dk_at dksX5_readNumber_0 12 rfl rfl)
theorem dX5_readNumber_15 : decode cX5_readNumber 15 = .ok (.putfield 26, 3) := dk_181 0 26 (dk_at dksX5_readNumber_0 15 rfl rfl)
theorem dX5_readNumber_18 : decode cX5_readNumber 18 = .ok (.aload_n 0, 1) := dk_42 (dk_at dksX5_readNumber_0 18 rfl rfl)
theorem dX5_readNumber_19 : decode cX5_readNumber 19 = .ok (.aload_n 0, 1) := dk_42 (dk_at dksX5_readNumber_0 19 rfl rfl)
theorem dX5_readNumber_20 : decode cX5_readNumber 20 = .ok (.getfield 26, 3) := dk_180 0 26 (dk_at dksX5_readNumber_0 20 rfl rfl)
theorem dX5_readNumber_23 : decode cX5_readNumber 23 = .ok (.invokevirtual 32, 3) := dk_182 0 32 (dk_at dksX5_readNumber_1 0 rfl rfl)
theorem dX5_readNumber_26 : decode cX5_readNumber 26 = .ok (.invokestatic 46, 3) := dk_184 0 46 (dk_at dksX5_readNumber_1 3 rfl rfl)
theorem dX5_readNumber_29 : decode cX5_readNumber 29 = .ok (.ifCond .eq 59, 3) := dk_153 0 59 (dk_at dksX5_readNumber_1 6 rfl rfl)
theorem dX5_readNumber_32 : decode cX5_readNumber 32 = .ok (.aload_n 0, 1) := dk_42 (dk_at dksX5_readNumber_1 9 rfl rfl)
theorem dX5_readNumber_33 : decode cX5_readNumber 33 = .ok (.aload_n 0, 1) := dk_42 (dk_at dksX5_readNumber_1 10 rfl rfl)
theorem dX5_readNumber_34 : decode cX5_readNumber 34 = .ok (.getfield 26, 3) := dk_180 0 26 (dk_at dksX5_readNumber_1 11 rfl rfl)
theorem dX5_readNumber_37 : decode cX5_readNumber 37 = .ok (.aload_n 0, 1) := dk_42 (dk_at dksX5_readNumber_1 14 rfl rfl)
theorem dX5_readNumber_38 : decode cX5_readNumber 38 = .ok (.getfield 29, 3) := dk_180 0 29 (dk_at dksX5_readNumber_1 15 rfl rfl)
theorem dX5_readNumber_41 : decode cX5_readNumber 41 = .ok (.isub, 1) := dk_100 (dk_at dksX5_readNumber_1 18 rfl rfl)
theorem dX5_readNumber_42 : decode cX5_readNumber 42 = .ok (.iconst 4, 1) := dk_7 (dk_at dksX5_readNumber_1 19 rfl rfl)
theorem dX5_readNumber_43 : decode cX5_readNumber 43 = .ok (.if_icmp .ge 25, 3) := dk_162 0 25 (dk_at dksX5_readNumber_1 20 rfl rfl)
theorem dX5_readNumber_46 : decode cX5_readNumber 46 = .ok (.bipush 10, 2) := dk_16 10 (dk_at dksX5_readNumber_2 0 rfl rfl)
theorem dX5_readNumber_48 : decode cX5_readNumber 48 = .ok (.aload_n 0, 1) := dk_42 (dk_at dksX5_readNumber_2 2 rfl rfl)
theorem dX5_readNumber_49 : decode cX5_readNumber 49 = .ok (.getfield 59, 3) := dk_180 0 59 (dk_at dksX5_readNumber_2 3 rfl rfl)
theorem dX5_readNumber_52 : decode cX5_readNumber 52 = .ok (.imul, 1) := dk_104 (dk_at dksX5_readNumber_2 6 rfl rfl)
theorem dX5_readNumber_53 : decode cX5_readNumber 53 = .ok (.aload_n 0, 1) := dk_42 (dk_at dksX5_readNumber_2 7 rfl rfl)
theorem dX5_readNumber_54 : decode cX5_readNumber 54 = .ok (.aload_n 0, 1) := dk_42 (dk_at dksX5_readNumber_2 8 rfl rfl)
theorem dX5_readNumber_55 : decode cX5_readNumber 55 = .ok (.getfield 26, 3) := dk_180 0 26 (dk_at dksX5_readNumber_2 9 rfl rfl)
theorem dX5_readNumber_58 : decode cX5_readNumber 58 = .ok (.invokevirtual 32, 3) := dk_182 0 32 (dk_at dksX5_readNumber_2 12 rfl rfl)
theorem dX5_readNumber_61 : decode cX5_readNumber 61 = .ok (.iadd, 1) := dk_96 (dk_at dksX5_readNumber_2 15 rfl rfl)
theorem dX5_readNumber_62 : decode cX5_readNumber 62 = .ok (.bipush 48, 2) := dk_16 48 (dk_at dksX5_readNumber_2 16 rfl rfl)
theorem dX5_readNumber_64 : decode cX5_readNumber 64 = .ok (.isub, 1) := dk_100 (dk_at dksX5_readNumber_2 18 rfl rfl)
theorem dX5_readNumber_65 : decode cX5_readNumber 65 = .ok (.goto 7, 3) := dk_167 0 7 (dk_at dksX5_readNumber_2 19 rfl rfl)
theorem dX5_readNumber_68 : decode cX5_readNumber 68 = .ok (.aload_n 0, 1) := dk_42 (dk_at dksX5_readNumber_2 22 rfl rfl)
theorem dX5_readNumber_69 : decode cX5_readNumber 69 = .ok (.getfield 59, 3) := dk_180 0 59 (dk_at dksX5_readNumber_3 0 rfl rfl)
theorem dX5_readNumber_72 : decode cX5_readNumber 72 = .ok (.putfield 59, 3) := dk_181 0 59 (dk_at dksX5_readNumber_3 3 rfl rfl)
theorem dX5_readNumber_75 : decode cX5_readNumber 75 = .ok (.aload_n 0, 1) := dk_42 (dk_at dksX5_readNumber_3 6 rfl rfl)
theorem dX5_readNumber_76 : decode cX5_readNumber 76 = .ok (.dup, 1) := dk_89 (dk_at dksX5_readNumber_3 7 rfl rfl)
theorem dX5_readNumber_77 : decode cX5_readNumber 77 = .ok (.getfield 26, 3) := dk_180 0 26 (dk_at dksX5_readNumber_3 8 rfl rfl)
theorem dX5_readNumber_80 : decode cX5_readNumber 80 = .ok (.iconst 1, 1) := dk_4 (dk_at dksX5_readNumber_3 11 rfl rfl)
theorem dX5_readNumber_81 : decode cX5_readNumber 81 = .ok (.iadd, 1) := dk_96 (dk_at dksX5_readNumber_3 12 rfl rfl)
theorem dX5_readNumber_82 : decode cX5_readNumber 82 = .ok (.putfield 26, 3) := dk_181 0 26 (dk_at dksX5_readNumber_3 13 rfl rfl)
theorem dX5_readNumber_85 : decode cX5_readNumber 85 = .ok (.goto (-67), 3) := dk_167 255 189 (dk_at dksX5_readNumber_3 16 rfl rfl)
theorem dX5_readNumber_88 : decode cX5_readNumber 88 = .ok (.aload_n 0, 1) := dk_42 (dk_at dksX5_readNumber_3 19 rfl rfl)
theorem dX5_readNumber_89 : decode cX5_readNumber 89 = .ok (.getfield 26, 3) := dk_180 0 26 (dk_at dksX5_readNumber_3 20 rfl rfl)
theorem dX5_readNumber_92 : decode cX5_readNumber 92 = .ok (.aload_n 0, 1) := dk_42 (dk_at dksX5_readNumber_3 23 rfl rfl)
theorem dX5_readNumber_93 : decode cX5_readNumber 93 = .ok (.getfield 29, 3) := dk_180 0 29 (dk_at dksX5_readNumber_4 0 rfl rfl)
theorem dX5_readNumber_96 : decode cX5_readNumber 96 = .ok (.isub, 1) := dk_100 (dk_at dksX5_readNumber_4 3 rfl rfl)
theorem dX5_readNumber_97 : decode cX5_readNumber 97 = .ok (.iconst 4, 1) := dk_7 (dk_at dksX5_readNumber_4 4 rfl rfl)
theorem dX5_readNumber_98 : decode cX5_readNumber 98 = .ok (.if_icmp .gt 17, 3) := dk_163 0 17 (dk_at dksX5_readNumber_4 5 rfl rfl)
theorem dX5_readNumber_101 : decode cX5_readNumber 101 = .ok (.aload_n 0, 1) := dk_42 (dk_at dksX5_readNumber_4 8 rfl rfl)
theorem dX5_readNumber_102 : decode cX5_readNumber 102 = .ok (.aload_n 0, 1) := dk_42 (dk_at dksX5_readNumber_4 9 rfl rfl)
theorem dX5_readNumber_103 : decode cX5_readNumber 103 = .ok (.getfield 26, 3) := dk_180 0 26 (dk_at dksX5_readNumber_4 10 rfl rfl)
theorem dX5_readNumber_106 : decode cX5_readNumber 106 = .ok (.invokevirtual 32, 3) := dk_182 0 32 (dk_at dksX5_readNumber_4 13 rfl rfl)
theorem dX5_readNumber_109 : decode cX5_readNumber 109 = .ok (.invokestatic 39, 3) := dk_184 0 39 (dk_at dksX5_readNumber_4 16 rfl rfl)
theorem dX5_readNumber_112 : decode cX5_readNumber 112 = .ok (.ifCond .eq 8, 3) := dk_153 0 8 (dk_at dksX5_readNumber_4 19 rfl rfl)
theorem dX5_readNumber_115 : decode cX5_readNumber 115 = .ok (.aload_n 0, 1) := dk_42 (dk_at dksX5_readNumber_4 22 rfl rfl)
theorem dX5_readNumber_116 : decode cX5_readNumber 116 = .ok (.iconst 4, 1) := dk_7 (dk_at dksX5_readNumber_4 23 rfl rfl)
theorem dX5_readNumber_117 : decode cX5_readNumber 117 = .ok (.putfield 36, 3) := dk_181 0 36 (dk_at dksX5_readNumber_5 0 rfl rfl)
theorem dX5_readNumber_120 : decode cX5_readNumber 120 = .ok (.return_, 1) := dk_177 (dk_at dksX5_readNumber_5 3 rfl rfl)
abbrev cX5_isSign : ByteArray := prog_13_method_5_code
def yX5_isSign : MethodName := ⟨RX5, "isSign", "(I)Z"⟩
def dkwX5_isSign_2 : List UInt8 := [26, 16, 42, 159, 0, 15, 26, 16, 47, 159, 0, 9, 26, 16, 37, 160, 0, 7, 4, 167, 0, 4, 3, 172]
abbrev dktX5_isSign_2 : List UInt8 := dkwX5_isSign_2 ++ []
def dkwX5_isSign_1 : List UInt8 := [26, 16, 62, 159, 0, 39, 26, 16, 61, 159, 0, 33, 26, 16, 43, 159, 0, 27, 26, 16, 45, 159, 0, 21]
abbrev dktX5_isSign_1 : List UInt8 := dkwX5_isSign_1 ++ dktX5_isSign_2
def dkwX5_isSign_0 : List UInt8 := [26, 16, 59, 159, 0, 63, 26, 16, 40, 159, 0, 57, 26, 16, 41, 159, 0, 51, 26, 16, 60, 159, 0, 45]
abbrev dktX5_isSign_0 : List UInt8 := dkwX5_isSign_0 ++ dktX5_isSign_1
theorem dksX5_isSign_0 : cX5_isSign.data.toList.drop 0 = dktX5_isSign_0 := by decide +kernel
theorem dksX5_isSign_1 : cX5_isSign.data.toList.drop 24 = dktX5_isSign_1 := dk_seg dksX5_isSign_0 24 rfl rfl
theorem dksX5_isSign_2 : cX5_isSign.data.toList.drop 48 = dktX5_isSign_2 := dk_seg dksX5_isSign_1 24 rfl rfl
theorem dX5_isSign_0 : decode cX5_isSign 0 = .ok (.iload_n 0, 1) := dk_26 (dk_at dksX5_isSign_0 0 rfl rfl)
theorem dX5_isSign_1 : decode cX5_isSign 1 = .ok (.bipush 59, 2) := dk_16 59 (dk_at dksX5_isSign_0 1 rfl rfl)
theorem dX5_isSign_3 : decode cX5_isSign 3 = .ok (.if_icmp .eq 63, 3) := dk_159 0 63 (dk_at dksX5_isSign_0 3 rfl rfl)
theorem dX5_isSign_6 : decode cX5_isSign 6 = .ok (.iload_n 0, 1) := dk_26 (dk_at dksX5_isSign_0 6 rfl rfl)
theorem dX5_isSign_7 : decode cX5_isSign 7 = .ok (.bipush 40, 2) := dk_16 40 (dk_at dksX5_isSign_0 7 rfl rfl)
theorem dX5_isSign_9 : decode cX5_isSign 9 = .ok (.if_icmp .eq 57, 3) := dk_159 0 57 (dk_at dksX5_isSign_0 9 rfl rfl)
theorem dX5_isSign_12 : decode cX5_isSign 12 = .ok (.iload_n 0, 1) := dk_26 (dk_at dksX5_isSign_0 12 rfl rfl)
theorem dX5_isSign_13 : decode cX5_isSign 13 = .ok (.bipush 41, 2) := dk_16 41 (dk_at dksX5_isSign_0 13 rfl rfl)
theorem dX5_isSign_15 : decode cX5_isSign 15 = .ok (.if_icmp .eq 51, 3) := dk_159 0 51 (dk_at dksX5_isSign_0 15 rfl rfl)
theorem dX5_isSign_18 : decode cX5_isSign 18 = .ok (.iload_n 0, 1) := dk_26 (dk_at dksX5_isSign_0 18 rfl rfl)
theorem dX5_isSign_19 : decode cX5_isSign 19 = .ok (.bipush 60, 2) := dk_16 60 (dk_at dksX5_isSign_0 19 rfl rfl)
theorem dX5_isSign_21 : decode cX5_isSign 21 = .ok (.if_icmp .eq 45, 3) := dk_159 0 45 (dk_at dksX5_isSign_0 21 rfl rfl)
theorem dX5_isSign_24 : decode cX5_isSign 24 = .ok (.iload_n 0, 1) := dk_26 (dk_at dksX5_isSign_1 0 rfl rfl)
theorem dX5_isSign_25 : decode cX5_isSign 25 = .ok (.bipush 62, 2) := dk_16 62 (dk_at dksX5_isSign_1 1 rfl rfl)
theorem dX5_isSign_27 : decode cX5_isSign 27 = .ok (.if_icmp .eq 39, 3) := dk_159 0 39 (dk_at dksX5_isSign_1 3 rfl rfl)
theorem dX5_isSign_30 : decode cX5_isSign 30 = .ok (.iload_n 0, 1) := dk_26 (dk_at dksX5_isSign_1 6 rfl rfl)
theorem dX5_isSign_31 : decode cX5_isSign 31 = .ok (.bipush 61, 2) := dk_16 61 (dk_at dksX5_isSign_1 7 rfl rfl)
theorem dX5_isSign_33 : decode cX5_isSign 33 = .ok (.if_icmp .eq 33, 3) := dk_159 0 33 (dk_at dksX5_isSign_1 9 rfl rfl)
theorem dX5_isSign_36 : decode cX5_isSign 36 = .ok (.iload_n 0, 1) := dk_26 (dk_at dksX5_isSign_1 12 rfl rfl)
theorem dX5_isSign_37 : decode cX5_isSign 37 = .ok (.bipush 43, 2) := dk_16 43 (dk_at dksX5_isSign_1 13 rfl rfl)
theorem dX5_isSign_39 : decode cX5_isSign 39 = .ok (.if_icmp .eq 27, 3) := dk_159 0 27 (dk_at dksX5_isSign_1 15 rfl rfl)
theorem dX5_isSign_42 : decode cX5_isSign 42 = .ok (.iload_n 0, 1) := dk_26 (dk_at dksX5_isSign_1 18 rfl rfl)
theorem dX5_isSign_43 : decode cX5_isSign 43 = .ok (.bipush 45, 2) := dk_16 45 (dk_at dksX5_isSign_1 19 rfl rfl)
theorem dX5_isSign_45 : decode cX5_isSign 45 = .ok (.if_icmp .eq 21, 3) := dk_159 0 21 (dk_at dksX5_isSign_1 21 rfl rfl)
theorem dX5_isSign_48 : decode cX5_isSign 48 = .ok (.iload_n 0, 1) := dk_26 (dk_at dksX5_isSign_2 0 rfl rfl)
theorem dX5_isSign_49 : decode cX5_isSign 49 = .ok (.bipush 42, 2) := dk_16 42 (dk_at dksX5_isSign_2 1 rfl rfl)
theorem dX5_isSign_51 : decode cX5_isSign 51 = .ok (.if_icmp .eq 15, 3) := dk_159 0 15 (dk_at dksX5_isSign_2 3 rfl rfl)
theorem dX5_isSign_54 : decode cX5_isSign 54 = .ok (.iload_n 0, 1) := dk_26 (dk_at dksX5_isSign_2 6 rfl rfl)
theorem dX5_isSign_55 : decode cX5_isSign 55 = .ok (.bipush 47, 2) := dk_16 47 (dk_at dksX5_isSign_2 7 rfl rfl)
theorem dX5_isSign_57 : decode cX5_isSign 57 = .ok (.if_icmp .eq 9, 3) := dk_159 0 9 (dk_at dksX5_isSign_2 9 rfl rfl)
theorem dX5_isSign_60 : decode cX5_isSign 60 = .ok (.iload_n 0, 1) := dk_26 (dk_at dksX5_isSign_2 12 rfl rfl)
theorem dX5_isSign_61 : decode cX5_isSign 61 = .ok (.bipush 37, 2) := dk_16 37 (dk_at dksX5_isSign_2 13 rfl rfl)
theorem dX5_isSign_63 : decode cX5_isSign 63 = .ok (.if_icmp .ne 7, 3) := dk_160 0 7 (dk_at dksX5_isSign_2 15 rfl rfl)
theorem dX5_isSign_66 : decode cX5_isSign 66 = .ok (.iconst 1, 1) := dk_4 (dk_at dksX5_isSign_2 18 rfl rfl)
theorem dX5_isSign_67 : decode cX5_isSign 67 = .ok (.goto 4, 3) := dk_167 0 4 (dk_at dksX5_isSign_2 19 rfl rfl)
theorem dX5_isSign_70 : decode cX5_isSign 70 = .ok (.iconst 0, 1) := dk_3 (dk_at dksX5_isSign_2 22 rfl rfl)
theorem dX5_isSign_71 : decode cX5_isSign 71 = .ok (.ireturn, 1) := dk_172 (dk_at dksX5_isSign_2 23 rfl rfl)
abbrev cX5_line : ByteArray := prog_13_method_36_code
def yX5_line : MethodName := ⟨RX5, "line", "()V"⟩
def dkwX5_line_6 : List UInt8 := [182, 0, 198, 153, 0, 10, 42, 182, 1, 69, 167, 0, 11, 42, 182, 0, 93, 42, 182, 1, 71, 177]
abbrev dktX5_line_6 : List UInt8 := dkwX5_line_6 ++ []
def dkwX5_line_5 : List UInt8 := [167, 0, 45, 42, 19, 1, 51, 182, 0, 198, 153, 0, 10, 42, 182, 1, 67, 167, 0, 28, 42, 19, 1, 53]
abbrev dktX5_line_5 : List UInt8 := dkwX5_line_5 ++ dktX5_line_6
def dkwX5_line_4 : List UInt8 := [182, 0, 100, 181, 1, 63, 167, 0, 62, 42, 19, 1, 50, 182, 0, 198, 153, 0, 10, 42, 182, 1, 65]
abbrev dktX5_line_4 : List UInt8 := dkwX5_line_4 ++ dktX5_line_5
def dkwX5_line_3 : List UInt8 := [182, 0, 198, 153, 0, 28, 42, 180, 0, 12, 4, 181, 1, 47, 42, 180, 0, 12, 42, 3, 16, 9]
abbrev dktX5_line_3 : List UInt8 := dkwX5_line_3 ++ dktX5_line_4
def dkwX5_line_2 : List UInt8 := [42, 180, 0, 12, 42, 3, 17, 3, 231, 182, 0, 100, 181, 1, 61, 167, 0, 97, 42, 19, 1, 45]
abbrev dktX5_line_2 : List UInt8 := dkwX5_line_2 ++ dktX5_line_3
def dkwX5_line_1 : List UInt8 := [182, 1, 59, 167, 0, 133, 42, 19, 1, 40, 182, 0, 198, 153, 0, 29, 42, 180, 0, 12, 4, 181, 1, 42]
abbrev dktX5_line_1 : List UInt8 := dkwX5_line_1 ++ dktX5_line_2
def dkwX5_line_0 : List UInt8 := [42, 182, 1, 56, 154, 0, 8, 42, 182, 0, 89, 191, 42, 19, 1, 38, 182, 0, 198, 153, 0, 10, 42]
abbrev dktX5_line_0 : List UInt8 := dkwX5_line_0 ++ dktX5_line_1
theorem dksX5_line_0 : cX5_line.data.toList.drop 0 = dktX5_line_0 := by decide +kernel
theorem dksX5_line_1 : cX5_line.data.toList.drop 23 = dktX5_line_1 := dk_seg dksX5_line_0 23 rfl rfl
theorem dksX5_line_2 : cX5_line.data.toList.drop 47 = dktX5_line_2 := dk_seg dksX5_line_1 24 rfl rfl
theorem dksX5_line_3 : cX5_line.data.toList.drop 69 = dktX5_line_3 := dk_seg dksX5_line_2 22 rfl rfl
theorem dksX5_line_4 : cX5_line.data.toList.drop 91 = dktX5_line_4 := dk_seg dksX5_line_3 22 rfl rfl
theorem dksX5_line_5 : cX5_line.data.toList.drop 114 = dktX5_line_5 := dk_seg dksX5_line_4 23 rfl rfl
theorem dksX5_line_6 : cX5_line.data.toList.drop 138 = dktX5_line_6 := dk_seg dksX5_line_5 24 rfl rfl
theorem dX5_line_0 : decode cX5_line 0 = .ok (.aload_n 0, 1) := dk_42 (dk_at dksX5_line_0 0 rfl rfl)
theorem dX5_line_1 : decode cX5_line 1 = .ok (.invokevirtual 312, 3) := dk_182 1 56 (dk_at dksX5_line_0 1 rfl rfl)
theorem dX5_line_4 : decode cX5_line 4 = .ok (.ifCond .ne 8, 3) := dk_154 0 8 (dk_at dksX5_line_0 4 rfl rfl)
theorem dX5_line_7 : decode cX5_line 7 = .ok (.aload_n 0, 1) := dk_42 (dk_at dksX5_line_0 7 rfl rfl)
theorem dX5_line_8 : decode cX5_line 8 = .ok (.invokevirtual 89, 3) := dk_182 0 89 (dk_at dksX5_line_0 8 rfl rfl)
theorem dX5_line_11 : decode cX5_line 11 = .ok (.athrow, 1) := dk_191 (dk_at dksX5_line_0 11 rfl rfl)
theorem dX5_line_12 : decode cX5_line 12 = .ok (.aload_n 0, 1) := dk_42 (dk_at dksX5_line_0 12 rfl rfl)
theorem dX5_line_13 : decode cX5_line 13 = .ok (.ldc_w 294, 3) := dk_19 1 38 (dk_at dksX5_line_0 13 rfl rfl)
theorem dX5_line_16 : decode cX5_line 16 = .ok (.invokevirtual 198, 3) := dk_182 0 198 (dk_at dksX5_line_0 16 rfl rfl)
theorem dX5_line_19 : decode cX5_line 19 = .ok (.ifCond .eq 10, 3) := dk_153 0 10 (dk_at dksX5_line_0 19 rfl rfl)
theorem dX5_line_22 : decode cX5_line 22 = .ok (.aload_n 0, 1) := dk_42 (dk_at dksX5_line_0 22 rfl rfl)
theorem dX5_line_23 : decode cX5_line 23 = .ok (.invokevirtual 315, 3) := dk_182 1 59 (dk_at dksX5_line_1 0 rfl rfl)
theorem dX5_line_26 : decode cX5_line 26 = .ok (.goto 133, 3) := dk_167 0 133 (dk_at dksX5_line_1 3 rfl rfl)
theorem dX5_line_29 : decode cX5_line 29 = .ok (.aload_n 0, 1) := dk_42 (dk_at dksX5_line_1 6 rfl rfl)
theorem dX5_line_30 : decode cX5_line 30 = .ok (.ldc_w 296, 3) := dk_19 1 40 (dk_at dksX5_line_1 7 rfl rfl)
theorem dX5_line_33 : decode cX5_line 33 = .ok (.invokevirtual 198, 3) := dk_182 0 198 (dk_at dksX5_line_1 10 rfl rfl)
theorem dX5_line_36 : decode cX5_line 36 = .ok (.ifCond .eq 29, 3) := dk_153 0 29 (dk_at dksX5_line_1 13 rfl rfl)
theorem dX5_line_39 : decode cX5_line 39 = .ok (.aload_n 0, 1) := dk_42 (dk_at dksX5_line_1 16 rfl rfl)
theorem dX5_line_40 : decode cX5_line 40 = .ok (.getfield 12, 3) := dk_180 0 12 (dk_at dksX5_line_1 17 rfl rfl)
theorem dX5_line_43 : decode cX5_line 43 = .ok (.iconst 1, 1) := dk_4 (dk_at dksX5_line_1 20 rfl rfl)
theorem dX5_line_44 : decode cX5_line 44 = .ok (.putfield 298, 3) := dk_181 1 42 (dk_at dksX5_line_1 21 rfl rfl)
theorem dX5_line_47 : decode cX5_line 47 = .ok (.aload_n 0, 1) := dk_42 (dk_at dksX5_line_2 0 rfl rfl)
theorem dX5_line_48 : decode cX5_line 48 = .ok (.getfield 12, 3) := dk_180 0 12 (dk_at dksX5_line_2 1 rfl rfl)
theorem dX5_line_51 : decode cX5_line 51 = .ok (.aload_n 0, 1) := dk_42 (dk_at dksX5_line_2 4 rfl rfl)
theorem dX5_line_52 : decode cX5_line 52 = .ok (.iconst 0, 1) := dk_3 (dk_at dksX5_line_2 5 rfl rfl)
theorem dX5_line_53 : decode cX5_line 53 = .ok (.sipush 999, 3) := dk_17 3 231 (dk_at dksX5_line_2 6 rfl rfl)
theorem dX5_line_56 : decode cX5_line 56 = .ok (.invokevirtual 100, 3) := dk_182 0 100 (dk_at dksX5_line_2 9 rfl rfl)
theorem dX5_line_59 : decode cX5_line 59 = .ok (.putfield 317, 3) := dk_181 1 61 (dk_at dksX5_line_2 12 rfl rfl)
theorem dX5_line_62 : decode cX5_line 62 = .ok (.goto 97, 3) := dk_167 0 97 (dk_at dksX5_line_2 15 rfl rfl)
theorem dX5_line_65 : decode cX5_line 65 = .ok (.aload_n 0, 1) := dk_42 (dk_at dksX5_line_2 18 rfl rfl)
theorem dX5_line_66 : decode cX5_line 66 = .ok (.ldc_w 301, 3) := dk_19 1 45 (dk_at dksX5_line_2 19 rfl rfl)
theorem dX5_line_69 : decode cX5_line 69 = .ok (.invokevirtual 198, 3) := dk_182 0 198 (dk_at dksX5_line_3 0 rfl rfl)
theorem dX5_line_72 : decode cX5_line 72 = .ok (.ifCond .eq 28, 3) := dk_153 0 28 (dk_at dksX5_line_3 3 rfl rfl)
theorem dX5_line_75 : decode cX5_line 75 = .ok (.aload_n 0, 1) := dk_42 (dk_at dksX5_line_3 6 rfl rfl)
theorem dX5_line_76 : decode cX5_line 76 = .ok (.getfield 12, 3) := dk_180 0 12 (dk_at dksX5_line_3 7 rfl rfl)
theorem dX5_line_79 : decode cX5_line 79 = .ok (.iconst 1, 1) := dk_4 (dk_at dksX5_line_3 10 rfl rfl)
theorem dX5_line_80 : decode cX5_line 80 = .ok (.putfield 303, 3) := dk_181 1 47 (dk_at dksX5_line_3 11 rfl rfl)
theorem dX5_line_83 : decode cX5_line 83 = .ok (.aload_n 0, 1) := dk_42 (dk_at dksX5_line_3 14 rfl rfl)
theorem dX5_line_84 : decode cX5_line 84 = .ok (.getfield 12, 3) := dk_180 0 12 (dk_at dksX5_line_3 15 rfl rfl)
theorem dX5_line_87 : decode cX5_line 87 = .ok (.aload_n 0, 1) := dk_42 (dk_at dksX5_line_3 18 rfl rfl)
theorem dX5_line_88 : decode cX5_line 88 = .ok (.iconst 0, 1) := dk_3 (dk_at dksX5_line_3 19 rfl rfl)
theorem dX5_line_89 : decode cX5_line 89 = .ok (.bipush 9, 2) := dk_16 9 (dk_at dksX5_line_3 20 rfl rfl)
theorem dX5_line_91 : decode cX5_line 91 = .ok (.invokevirtual 100, 3) := dk_182 0 100 (dk_at dksX5_line_4 0 rfl rfl)
theorem dX5_line_94 : decode cX5_line 94 = .ok (.putfield 319, 3) := dk_181 1 63 (dk_at dksX5_line_4 3 rfl rfl)
theorem dX5_line_97 : decode cX5_line 97 = .ok (.goto 62, 3) := dk_167 0 62 (dk_at dksX5_line_4 6 rfl rfl)
theorem dX5_line_100 : decode cX5_line 100 = .ok (.aload_n 0, 1) := dk_42 (dk_at dksX5_line_4 9 rfl rfl)
theorem dX5_line_101 : decode cX5_line 101 = .ok (.ldc_w 306, 3) := dk_19 1 50 (dk_at dksX5_line_4 10 rfl rfl)
theorem dX5_line_104 : decode cX5_line 104 = .ok (.invokevirtual 198, 3) := dk_182 0 198 (dk_at dksX5_line_4 13 rfl rfl)
theorem dX5_line_107 : decode cX5_line 107 = .ok (.ifCond .eq 10, 3) := dk_153 0 10 (dk_at dksX5_line_4 16 rfl rfl)
theorem dX5_line_110 : decode cX5_line 110 = .ok (.aload_n 0, 1) := dk_42 (dk_at dksX5_line_4 19 rfl rfl)
theorem dX5_line_111 : decode cX5_line 111 = .ok (.invokevirtual 321, 3) := dk_182 1 65 (dk_at dksX5_line_4 20 rfl rfl)
theorem dX5_line_114 : decode cX5_line 114 = .ok (.goto 45, 3) := dk_167 0 45 (dk_at dksX5_line_5 0 rfl rfl)
theorem dX5_line_117 : decode cX5_line 117 = .ok (.aload_n 0, 1) := dk_42 (dk_at dksX5_line_5 3 rfl rfl)
theorem dX5_line_118 : decode cX5_line 118 = .ok (.ldc_w 307, 3) := dk_19 1 51 (dk_at dksX5_line_5 4 rfl rfl)
theorem dX5_line_121 : decode cX5_line 121 = .ok (.invokevirtual 198, 3) := dk_182 0 198 (dk_at dksX5_line_5 7 rfl rfl)
theorem dX5_line_124 : decode cX5_line 124 = .ok (.ifCond .eq 10, 3) := dk_153 0 10 (dk_at dksX5_line_5 10 rfl rfl)
theorem dX5_line_127 : decode cX5_line 127 = .ok (.aload_n 0, 1) := dk_42 (dk_at dksX5_line_5 13 rfl rfl)
theorem dX5_line_128 : decode cX5_line 128 = .ok (.invokevirtual 323, 3) := dk_182 1 67 (dk_at dksX5_line_5 14 rfl rfl)
theorem dX5_line_131 : decode cX5_line 131 = .ok (.goto 28, 3) := dk_167 0 28 (dk_at dksX5_line_5 17 rfl rfl)
theorem dX5_line_134 : decode cX5_line 134 = .ok (.aload_n 0, 1) := dk_42 (dk_at dksX5_line_5 20 rfl rfl)
theorem dX5_line_135 : decode cX5_line 135 = .ok (.ldc_w 309, 3) := dk_19 1 53 (dk_at dksX5_line_5 21 rfl rfl)
theorem dX5_line_138 : decode cX5_line 138 = .ok (.invokevirtual 198, 3) := dk_182 0 198 (dk_at dksX5_line_6 0 rfl rfl)
theorem dX5_line_141 : decode cX5_line 141 = .ok (.ifCond .eq 10, 3) := dk_153 0 10 (dk_at dksX5_line_6 3 rfl rfl)
theorem dX5_line_144 : decode cX5_line 144 = .ok (.aload_n 0, 1) := dk_42 (dk_at dksX5_line_6 6 rfl rfl)
theorem dX5_line_145 : decode cX5_line 145 = .ok (.invokevirtual 325, 3) := dk_182 1 69 (dk_at dksX5_line_6 7 rfl rfl)
theorem dX5_line_148 : decode cX5_line 148 = .ok (.goto 11, 3) := dk_167 0 11 (dk_at dksX5_line_6 10 rfl rfl)
theorem dX5_line_151 : decode cX5_line 151 = .ok (.aload_n 0, 1) := dk_42 (dk_at dksX5_line_6 13 rfl rfl)
theorem dX5_line_152 : decode cX5_line 152 = .ok (.invokevirtual 93, 3) := dk_182 0 93 (dk_at dksX5_line_6 14 rfl rfl)
theorem dX5_line_155 : decode cX5_line 155 = .ok (.aload_n 0, 1) := dk_42 (dk_at dksX5_line_6 17 rfl rfl)
theorem dX5_line_156 : decode cX5_line 156 = .ok (.invokevirtual 327, 3) := dk_182 1 71 (dk_at dksX5_line_6 18 rfl rfl)
theorem dX5_line_159 : decode cX5_line 159 = .ok (.return_, 1) := dk_177 (dk_at dksX5_line_6 21 rfl rfl)
abbrev cX5_canLine : ByteArray := prog_13_method_35_code
def yX5_canLine : MethodName := ⟨RX5, "canLine", "()Z"⟩
def dkwX5_canLine_8 : List UInt8 := [19, 1, 55, 182, 0, 72, 172]
abbrev dktX5_canLine_8 : List UInt8 := dkwX5_canLine_8 ++ []
def dkwX5_canLine_7 : List UInt8 := [42, 180, 0, 12, 180, 0, 124, 182, 0, 107, 7, 162, 0, 7, 4, 167, 0, 14, 3, 167, 0, 10, 42]
abbrev dktX5_canLine_7 : List UInt8 := dkwX5_canLine_7 ++ dktX5_canLine_8
def dkwX5_canLine_6 : List UInt8 := [182, 0, 107, 16, 10, 162, 0, 7, 4, 167, 0, 4, 3, 172, 42, 19, 1, 53, 182, 0, 72, 153, 0, 25]
abbrev dktX5_canLine_6 : List UInt8 := dkwX5_canLine_6 ++ dktX5_canLine_7
def dkwX5_canLine_5 : List UInt8 := [167, 0, 4, 3, 172, 42, 19, 1, 51, 182, 0, 72, 153, 0, 24, 42, 180, 0, 12, 180, 0, 118]
abbrev dktX5_canLine_5 : List UInt8 := dkwX5_canLine_5 ++ dktX5_canLine_6
def dkwX5_canLine_4 : List UInt8 := [182, 0, 72, 153, 0, 24, 42, 180, 0, 12, 180, 0, 103, 182, 0, 107, 16, 6, 162, 0, 7, 4]
abbrev dktX5_canLine_4 : List UInt8 := dkwX5_canLine_4 ++ dktX5_canLine_5
def dkwX5_canLine_3 : List UInt8 := [153, 0, 19, 42, 180, 0, 12, 180, 1, 47, 154, 0, 7, 4, 167, 0, 4, 3, 172, 42, 19, 1, 50]
abbrev dktX5_canLine_3 : List UInt8 := dkwX5_canLine_3 ++ dktX5_canLine_4
def dkwX5_canLine_2 : List UInt8 := [42, 180, 0, 12, 180, 1, 42, 154, 0, 7, 4, 167, 0, 4, 3, 172, 42, 19, 1, 45, 182, 0, 72]
abbrev dktX5_canLine_2 : List UInt8 := dkwX5_canLine_2 ++ dktX5_canLine_3
def dkwX5_canLine_1 : List UInt8 := [3, 172, 42, 180, 0, 12, 180, 0, 130, 154, 0, 5, 3, 172, 42, 19, 1, 40, 182, 0, 72, 153, 0, 19]
abbrev dktX5_canLine_1 : List UInt8 := dkwX5_canLine_1 ++ dktX5_canLine_2
def dkwX5_canLine_0 : List UInt8 := [42, 19, 1, 38, 182, 0, 72, 153, 0, 19, 42, 180, 0, 12, 180, 0, 130, 154, 0, 7, 4, 167, 0, 4]
abbrev dktX5_canLine_0 : List UInt8 := dkwX5_canLine_0 ++ dktX5_canLine_1
theorem dksX5_canLine_0 : cX5_canLine.data.toList.drop 0 = dktX5_canLine_0 := by decide +kernel
theorem dksX5_canLine_1 : cX5_canLine.data.toList.drop 24 = dktX5_canLine_1 := dk_seg dksX5_canLine_0 24 rfl rfl
theorem dksX5_canLine_2 : cX5_canLine.data.toList.drop 48 = dktX5_canLine_2 := dk_seg dksX5_canLine_1 24 rfl rfl
theorem dksX5_canLine_3 : cX5_canLine.data.toList.drop 71 = dktX5_canLine_3 := dk_seg dksX5_canLine_2 23 rfl rfl
theorem dksX5_canLine_4 : cX5_canLine.data.toList.drop 94 = dktX5_canLine_4 := dk_seg dksX5_canLine_3 23 rfl rfl
theorem dksX5_canLine_5 : cX5_canLine.data.toList.drop 116 = dktX5_canLine_5 := dk_seg dksX5_canLine_4 22 rfl rfl
theorem dksX5_canLine_6 : cX5_canLine.data.toList.drop 138 = dktX5_canLine_6 := dk_seg dksX5_canLine_5 22 rfl rfl
theorem dksX5_canLine_7 : cX5_canLine.data.toList.drop 162 = dktX5_canLine_7 := dk_seg dksX5_canLine_6 24 rfl rfl
theorem dksX5_canLine_8 : cX5_canLine.data.toList.drop 185 = dktX5_canLine_8 := dk_seg dksX5_canLine_7 23 rfl rfl
theorem dX5_canLine_0 : decode cX5_canLine 0 = .ok (.aload_n 0, 1) := dk_42 (dk_at dksX5_canLine_0 0 rfl rfl)
theorem dX5_canLine_1 : decode cX5_canLine 1 = .ok (.ldc_w 294, 3) := dk_19 1 38 (dk_at dksX5_canLine_0 1 rfl rfl)
theorem dX5_canLine_4 : decode cX5_canLine 4 = .ok (.invokevirtual 72, 3) := dk_182 0 72 (dk_at dksX5_canLine_0 4 rfl rfl)
theorem dX5_canLine_7 : decode cX5_canLine 7 = .ok (.ifCond .eq 19, 3) := dk_153 0 19 (dk_at dksX5_canLine_0 7 rfl rfl)
theorem dX5_canLine_10 : decode cX5_canLine 10 = .ok (.aload_n 0, 1) := dk_42 (dk_at dksX5_canLine_0 10 rfl rfl)
theorem dX5_canLine_11 : decode cX5_canLine 11 = .ok (.getfield 12, 3) := dk_180 0 12 (dk_at dksX5_canLine_0 11 rfl rfl)
theorem dX5_canLine_14 : decode cX5_canLine 14 = .ok (.getfield 130, 3) := dk_180 0 130 (dk_at dksX5_canLine_0 14 rfl rfl)
theorem dX5_canLine_17 : decode cX5_canLine 17 = .ok (.ifCond .ne 7, 3) := dk_154 0 7 (dk_at dksX5_canLine_0 17 rfl rfl)
theorem dX5_canLine_20 : decode cX5_canLine 20 = .ok (.iconst 1, 1) := dk_4 (dk_at dksX5_canLine_0 20 rfl rfl)
theorem dX5_canLine_21 : decode cX5_canLine 21 = .ok (.goto 4, 3) := dk_167 0 4 (dk_at dksX5_canLine_0 21 rfl rfl)
theorem dX5_canLine_24 : decode cX5_canLine 24 = .ok (.iconst 0, 1) := dk_3 (dk_at dksX5_canLine_1 0 rfl rfl)
theorem dX5_canLine_25 : decode cX5_canLine 25 = .ok (.ireturn, 1) := dk_172 (dk_at dksX5_canLine_1 1 rfl rfl)
theorem dX5_canLine_26 : decode cX5_canLine 26 = .ok (.aload_n 0, 1) := dk_42 (dk_at dksX5_canLine_1 2 rfl rfl)
theorem dX5_canLine_27 : decode cX5_canLine 27 = .ok (.getfield 12, 3) := dk_180 0 12 (dk_at dksX5_canLine_1 3 rfl rfl)
theorem dX5_canLine_30 : decode cX5_canLine 30 = .ok (.getfield 130, 3) := dk_180 0 130 (dk_at dksX5_canLine_1 6 rfl rfl)
theorem dX5_canLine_33 : decode cX5_canLine 33 = .ok (.ifCond .ne 5, 3) := dk_154 0 5 (dk_at dksX5_canLine_1 9 rfl rfl)
theorem dX5_canLine_36 : decode cX5_canLine 36 = .ok (.iconst 0, 1) := dk_3 (dk_at dksX5_canLine_1 12 rfl rfl)
theorem dX5_canLine_37 : decode cX5_canLine 37 = .ok (.ireturn, 1) := dk_172 (dk_at dksX5_canLine_1 13 rfl rfl)
theorem dX5_canLine_38 : decode cX5_canLine 38 = .ok (.aload_n 0, 1) := dk_42 (dk_at dksX5_canLine_1 14 rfl rfl)
theorem dX5_canLine_39 : decode cX5_canLine 39 = .ok (.ldc_w 296, 3) := dk_19 1 40 (dk_at dksX5_canLine_1 15 rfl rfl)
theorem dX5_canLine_42 : decode cX5_canLine 42 = .ok (.invokevirtual 72, 3) := dk_182 0 72 (dk_at dksX5_canLine_1 18 rfl rfl)
theorem dX5_canLine_45 : decode cX5_canLine 45 = .ok (.ifCond .eq 19, 3) := dk_153 0 19 (dk_at dksX5_canLine_1 21 rfl rfl)
theorem dX5_canLine_48 : decode cX5_canLine 48 = .ok (.aload_n 0, 1) := dk_42 (dk_at dksX5_canLine_2 0 rfl rfl)
theorem dX5_canLine_49 : decode cX5_canLine 49 = .ok (.getfield 12, 3) := dk_180 0 12 (dk_at dksX5_canLine_2 1 rfl rfl)
theorem dX5_canLine_52 : decode cX5_canLine 52 = .ok (.getfield 298, 3) := dk_180 1 42 (dk_at dksX5_canLine_2 4 rfl rfl)
theorem dX5_canLine_55 : decode cX5_canLine 55 = .ok (.ifCond .ne 7, 3) := dk_154 0 7 (dk_at dksX5_canLine_2 7 rfl rfl)
theorem dX5_canLine_58 : decode cX5_canLine 58 = .ok (.iconst 1, 1) := dk_4 (dk_at dksX5_canLine_2 10 rfl rfl)
theorem dX5_canLine_59 : decode cX5_canLine 59 = .ok (.goto 4, 3) := dk_167 0 4 (dk_at dksX5_canLine_2 11 rfl rfl)
theorem dX5_canLine_62 : decode cX5_canLine 62 = .ok (.iconst 0, 1) := dk_3 (dk_at dksX5_canLine_2 14 rfl rfl)
theorem dX5_canLine_63 : decode cX5_canLine 63 = .ok (.ireturn, 1) := dk_172 (dk_at dksX5_canLine_2 15 rfl rfl)
theorem dX5_canLine_64 : decode cX5_canLine 64 = .ok (.aload_n 0, 1) := dk_42 (dk_at dksX5_canLine_2 16 rfl rfl)
theorem dX5_canLine_65 : decode cX5_canLine 65 = .ok (.ldc_w 301, 3) := dk_19 1 45 (dk_at dksX5_canLine_2 17 rfl rfl)
theorem dX5_canLine_68 : decode cX5_canLine 68 = .ok (.invokevirtual 72, 3) := dk_182 0 72 (dk_at dksX5_canLine_2 20 rfl rfl)
theorem dX5_canLine_71 : decode cX5_canLine 71 = .ok (.ifCond .eq 19, 3) := dk_153 0 19 (dk_at dksX5_canLine_3 0 rfl rfl)
theorem dX5_canLine_74 : decode cX5_canLine 74 = .ok (.aload_n 0, 1) := dk_42 (dk_at dksX5_canLine_3 3 rfl rfl)
theorem dX5_canLine_75 : decode cX5_canLine 75 = .ok (.getfield 12, 3) := dk_180 0 12 (dk_at dksX5_canLine_3 4 rfl rfl)
theorem dX5_canLine_78 : decode cX5_canLine 78 = .ok (.getfield 303, 3) := dk_180 1 47 (dk_at dksX5_canLine_3 7 rfl rfl)
theorem dX5_canLine_81 : decode cX5_canLine 81 = .ok (.ifCond .ne 7, 3) := dk_154 0 7 (dk_at dksX5_canLine_3 10 rfl rfl)
theorem dX5_canLine_84 : decode cX5_canLine 84 = .ok (.iconst 1, 1) := dk_4 (dk_at dksX5_canLine_3 13 rfl rfl)
theorem dX5_canLine_85 : decode cX5_canLine 85 = .ok (.goto 4, 3) := dk_167 0 4 (dk_at dksX5_canLine_3 14 rfl rfl)
theorem dX5_canLine_88 : decode cX5_canLine 88 = .ok (.iconst 0, 1) := dk_3 (dk_at dksX5_canLine_3 17 rfl rfl)
theorem dX5_canLine_89 : decode cX5_canLine 89 = .ok (.ireturn, 1) := dk_172 (dk_at dksX5_canLine_3 18 rfl rfl)
theorem dX5_canLine_90 : decode cX5_canLine 90 = .ok (.aload_n 0, 1) := dk_42 (dk_at dksX5_canLine_3 19 rfl rfl)
theorem dX5_canLine_91 : decode cX5_canLine 91 = .ok (.ldc_w 306, 3) := dk_19 1 50 (dk_at dksX5_canLine_3 20 rfl rfl)
theorem dX5_canLine_94 : decode cX5_canLine 94 = .ok (.invokevirtual 72, 3) := dk_182 0 72 (dk_at dksX5_canLine_4 0 rfl rfl)
theorem dX5_canLine_97 : decode cX5_canLine 97 = .ok (.ifCond .eq 24, 3) := dk_153 0 24 (dk_at dksX5_canLine_4 3 rfl rfl)
theorem dX5_canLine_100 : decode cX5_canLine 100 = .ok (.aload_n 0, 1) := dk_42 (dk_at dksX5_canLine_4 6 rfl rfl)
theorem dX5_canLine_101 : decode cX5_canLine 101 = .ok (.getfield 12, 3) := dk_180 0 12 (dk_at dksX5_canLine_4 7 rfl rfl)
theorem dX5_canLine_104 : decode cX5_canLine 104 = .ok (.getfield 103, 3) := dk_180 0 103 (dk_at dksX5_canLine_4 10 rfl rfl)
theorem dX5_canLine_107 : decode cX5_canLine 107 = .ok (.invokevirtual 107, 3) := dk_182 0 107 (dk_at dksX5_canLine_4 13 rfl rfl)
theorem dX5_canLine_110 : decode cX5_canLine 110 = .ok (.bipush 6, 2) := dk_16 6 (dk_at dksX5_canLine_4 16 rfl rfl)
theorem dX5_canLine_112 : decode cX5_canLine 112 = .ok (.if_icmp .ge 7, 3) := dk_162 0 7 (dk_at dksX5_canLine_4 18 rfl rfl)
theorem dX5_canLine_115 : decode cX5_canLine 115 = .ok (.iconst 1, 1) := dk_4 (dk_at dksX5_canLine_4 21 rfl rfl)
theorem dX5_canLine_116 : decode cX5_canLine 116 = .ok (.goto 4, 3) := dk_167 0 4 (dk_at dksX5_canLine_5 0 rfl rfl)
theorem dX5_canLine_119 : decode cX5_canLine 119 = .ok (.iconst 0, 1) := dk_3 (dk_at dksX5_canLine_5 3 rfl rfl)
theorem dX5_canLine_120 : decode cX5_canLine 120 = .ok (.ireturn, 1) := dk_172 (dk_at dksX5_canLine_5 4 rfl rfl)
theorem dX5_canLine_121 : decode cX5_canLine 121 = .ok (.aload_n 0, 1) := dk_42 (dk_at dksX5_canLine_5 5 rfl rfl)
theorem dX5_canLine_122 : decode cX5_canLine 122 = .ok (.ldc_w 307, 3) := dk_19 1 51 (dk_at dksX5_canLine_5 6 rfl rfl)
theorem dX5_canLine_125 : decode cX5_canLine 125 = .ok (.invokevirtual 72, 3) := dk_182 0 72 (dk_at dksX5_canLine_5 9 rfl rfl)
theorem dX5_canLine_128 : decode cX5_canLine 128 = .ok (.ifCond .eq 24, 3) := dk_153 0 24 (dk_at dksX5_canLine_5 12 rfl rfl)
theorem dX5_canLine_131 : decode cX5_canLine 131 = .ok (.aload_n 0, 1) := dk_42 (dk_at dksX5_canLine_5 15 rfl rfl)
theorem dX5_canLine_132 : decode cX5_canLine 132 = .ok (.getfield 12, 3) := dk_180 0 12 (dk_at dksX5_canLine_5 16 rfl rfl)
theorem dX5_canLine_135 : decode cX5_canLine 135 = .ok (.getfield 118, 3) := dk_180 0 118 (dk_at dksX5_canLine_5 19 rfl rfl)
theorem dX5_canLine_138 : decode cX5_canLine 138 = .ok (.invokevirtual 107, 3) := dk_182 0 107 (dk_at dksX5_canLine_6 0 rfl rfl)
theorem dX5_canLine_141 : decode cX5_canLine 141 = .ok (.bipush 10, 2) := dk_16 10 (dk_at dksX5_canLine_6 3 rfl rfl)
theorem dX5_canLine_143 : decode cX5_canLine 143 = .ok (.if_icmp .ge 7, 3) := dk_162 0 7 (dk_at dksX5_canLine_6 5 rfl rfl)
theorem dX5_canLine_146 : decode cX5_canLine 146 = .ok (.iconst 1, 1) := dk_4 (dk_at dksX5_canLine_6 8 rfl rfl)
theorem dX5_canLine_147 : decode cX5_canLine 147 = .ok (.goto 4, 3) := dk_167 0 4 (dk_at dksX5_canLine_6 9 rfl rfl)
theorem dX5_canLine_150 : decode cX5_canLine 150 = .ok (.iconst 0, 1) := dk_3 (dk_at dksX5_canLine_6 12 rfl rfl)
theorem dX5_canLine_151 : decode cX5_canLine 151 = .ok (.ireturn, 1) := dk_172 (dk_at dksX5_canLine_6 13 rfl rfl)
theorem dX5_canLine_152 : decode cX5_canLine 152 = .ok (.aload_n 0, 1) := dk_42 (dk_at dksX5_canLine_6 14 rfl rfl)
theorem dX5_canLine_153 : decode cX5_canLine 153 = .ok (.ldc_w 309, 3) := dk_19 1 53 (dk_at dksX5_canLine_6 15 rfl rfl)
theorem dX5_canLine_156 : decode cX5_canLine 156 = .ok (.invokevirtual 72, 3) := dk_182 0 72 (dk_at dksX5_canLine_6 18 rfl rfl)
theorem dX5_canLine_159 : decode cX5_canLine 159 = .ok (.ifCond .eq 25, 3) := dk_153 0 25 (dk_at dksX5_canLine_6 21 rfl rfl)
theorem dX5_canLine_162 : decode cX5_canLine 162 = .ok (.aload_n 0, 1) := dk_42 (dk_at dksX5_canLine_7 0 rfl rfl)
theorem dX5_canLine_163 : decode cX5_canLine 163 = .ok (.getfield 12, 3) := dk_180 0 12 (dk_at dksX5_canLine_7 1 rfl rfl)
theorem dX5_canLine_166 : decode cX5_canLine 166 = .ok (.getfield 124, 3) := dk_180 0 124 (dk_at dksX5_canLine_7 4 rfl rfl)
theorem dX5_canLine_169 : decode cX5_canLine 169 = .ok (.invokevirtual 107, 3) := dk_182 0 107 (dk_at dksX5_canLine_7 7 rfl rfl)
theorem dX5_canLine_172 : decode cX5_canLine 172 = .ok (.iconst 4, 1) := dk_7 (dk_at dksX5_canLine_7 10 rfl rfl)
theorem dX5_canLine_173 : decode cX5_canLine 173 = .ok (.if_icmp .ge 7, 3) := dk_162 0 7 (dk_at dksX5_canLine_7 11 rfl rfl)
theorem dX5_canLine_176 : decode cX5_canLine 176 = .ok (.iconst 1, 1) := dk_4 (dk_at dksX5_canLine_7 14 rfl rfl)
theorem dX5_canLine_177 : decode cX5_canLine 177 = .ok (.goto 14, 3) := dk_167 0 14 (dk_at dksX5_canLine_7 15 rfl rfl)
theorem dX5_canLine_180 : decode cX5_canLine 180 = .ok (.iconst 0, 1) := dk_3 (dk_at dksX5_canLine_7 18 rfl rfl)
theorem dX5_canLine_181 : decode cX5_canLine 181 = .ok (.goto 10, 3) := dk_167 0 10 (dk_at dksX5_canLine_7 19 rfl rfl)
theorem dX5_canLine_184 : decode cX5_canLine 184 = .ok (.aload_n 0, 1) := dk_42 (dk_at dksX5_canLine_7 22 rfl rfl)
theorem dX5_canLine_185 : decode cX5_canLine 185 = .ok (.ldc_w 311, 3) := dk_19 1 55 (dk_at dksX5_canLine_8 0 rfl rfl)
theorem dX5_canLine_188 : decode cX5_canLine 188 = .ok (.invokevirtual 72, 3) := dk_182 0 72 (dk_at dksX5_canLine_8 3 rfl rfl)
theorem dX5_canLine_191 : decode cX5_canLine 191 = .ok (.ireturn, 1) := dk_172 (dk_at dksX5_canLine_8 6 rfl rfl)
abbrev cX5_isWord : ByteArray := prog_13_method_9_code
def yX5_isWord : MethodName := ⟨RX5, "isWord", "(Ljava/lang/String;)Z"⟩
def dkwX5_isWord_3 : List UInt8 := [3, 172]
abbrev dktX5_isWord_3 : List UInt8 := dkwX5_isWord_3 ++ []
def dkwX5_isWord_2 : List UInt8 := [182, 0, 68, 160, 0, 9, 132, 2, 1, 167, 255, 227, 28, 43, 182, 0, 62, 160, 0, 7, 4, 167, 0, 4]
abbrev dktX5_isWord_2 : List UInt8 := dkwX5_isWord_2 ++ dktX5_isWord_3
def dkwX5_isWord_1 : List UInt8 := [3, 172, 3, 61, 28, 43, 182, 0, 62, 162, 0, 27, 42, 42, 180, 0, 29, 28, 96, 182, 0, 32, 43, 28]
abbrev dktX5_isWord_1 : List UInt8 := dkwX5_isWord_1 ++ dktX5_isWord_2
def dkwX5_isWord_0 : List UInt8 := [42, 180, 0, 36, 4, 160, 0, 19, 42, 180, 0, 26, 42, 180, 0, 29, 100, 43, 182, 0, 62, 159, 0, 5]
abbrev dktX5_isWord_0 : List UInt8 := dkwX5_isWord_0 ++ dktX5_isWord_1
theorem dksX5_isWord_0 : cX5_isWord.data.toList.drop 0 = dktX5_isWord_0 := by decide +kernel
theorem dksX5_isWord_1 : cX5_isWord.data.toList.drop 24 = dktX5_isWord_1 := dk_seg dksX5_isWord_0 24 rfl rfl
theorem dksX5_isWord_2 : cX5_isWord.data.toList.drop 48 = dktX5_isWord_2 := dk_seg dksX5_isWord_1 24 rfl rfl
theorem dksX5_isWord_3 : cX5_isWord.data.toList.drop 72 = dktX5_isWord_3 := dk_seg dksX5_isWord_2 24 rfl rfl
theorem dX5_isWord_0 : decode cX5_isWord 0 = .ok (.aload_n 0, 1) := dk_42 (dk_at dksX5_isWord_0 0 rfl rfl)
theorem dX5_isWord_1 : decode cX5_isWord 1 = .ok (.getfield 36, 3) := dk_180 0 36 (dk_at dksX5_isWord_0 1 rfl rfl)
theorem dX5_isWord_4 : decode cX5_isWord 4 = .ok (.iconst 1, 1) := dk_4 (dk_at dksX5_isWord_0 4 rfl rfl)
theorem dX5_isWord_5 : decode cX5_isWord 5 = .ok (.if_icmp .ne 19, 3) := dk_160 0 19 (dk_at dksX5_isWord_0 5 rfl rfl)
theorem dX5_isWord_8 : decode cX5_isWord 8 = .ok (.aload_n 0, 1) := dk_42 (dk_at dksX5_isWord_0 8 rfl rfl)
theorem dX5_isWord_9 : decode cX5_isWord 9 = .ok (.getfield 26, 3) := dk_180 0 26 (dk_at dksX5_isWord_0 9 rfl rfl)
theorem dX5_isWord_12 : decode cX5_isWord 12 = .ok (.aload_n 0, 1) := dk_42 (dk_at dksX5_isWord_0 12 rfl rfl)
theorem dX5_isWord_13 : decode cX5_isWord 13 = .ok (.getfield 29, 3) := dk_180 0 29 (dk_at dksX5_isWord_0 13 rfl rfl)
theorem dX5_isWord_16 : decode cX5_isWord 16 = .ok (.isub, 1) := dk_100 (dk_at dksX5_isWord_0 16 rfl rfl)
theorem dX5_isWord_17 : decode cX5_isWord 17 = .ok (.aload_n 1, 1) := dk_43 (dk_at dksX5_isWord_0 17 rfl rfl)
theorem dX5_isWord_18 : decode cX5_isWord 18 = .ok (.invokevirtual 62, 3) := dk_182 0 62 (dk_at dksX5_isWord_0 18 rfl rfl)
theorem dX5_isWord_21 : decode cX5_isWord 21 = .ok (.if_icmp .eq 5, 3) := dk_159 0 5 (dk_at dksX5_isWord_0 21 rfl rfl)
theorem dX5_isWord_24 : decode cX5_isWord 24 = .ok (.iconst 0, 1) := dk_3 (dk_at dksX5_isWord_1 0 rfl rfl)
theorem dX5_isWord_25 : decode cX5_isWord 25 = .ok (.ireturn, 1) := dk_172 (dk_at dksX5_isWord_1 1 rfl rfl)
theorem dX5_isWord_26 : decode cX5_isWord 26 = .ok (.iconst 0, 1) := dk_3 (dk_at dksX5_isWord_1 2 rfl rfl)
theorem dX5_isWord_27 : decode cX5_isWord 27 = .ok (.istore_n 2, 1) := dk_61 (dk_at dksX5_isWord_1 3 rfl rfl)
theorem dX5_isWord_28 : decode cX5_isWord 28 = .ok (.iload_n 2, 1) := dk_28 (dk_at dksX5_isWord_1 4 rfl rfl)
theorem dX5_isWord_29 : decode cX5_isWord 29 = .ok (.aload_n 1, 1) := dk_43 (dk_at dksX5_isWord_1 5 rfl rfl)
theorem dX5_isWord_30 : decode cX5_isWord 30 = .ok (.invokevirtual 62, 3) := dk_182 0 62 (dk_at dksX5_isWord_1 6 rfl rfl)
theorem dX5_isWord_33 : decode cX5_isWord 33 = .ok (.if_icmp .ge 27, 3) := dk_162 0 27 (dk_at dksX5_isWord_1 9 rfl rfl)
theorem dX5_isWord_36 : decode cX5_isWord 36 = .ok (.aload_n 0, 1) := dk_42 (dk_at dksX5_isWord_1 12 rfl rfl)
theorem dX5_isWord_37 : decode cX5_isWord 37 = .ok (.aload_n 0, 1) := dk_42 (dk_at dksX5_isWord_1 13 rfl rfl)
theorem dX5_isWord_38 : decode cX5_isWord 38 = .ok (.getfield 29, 3) := dk_180 0 29 (dk_at dksX5_isWord_1 14 rfl rfl)
theorem dX5_isWord_41 : decode cX5_isWord 41 = .ok (.iload_n 2, 1) := dk_28 (dk_at dksX5_isWord_1 17 rfl rfl)
theorem dX5_isWord_42 : decode cX5_isWord 42 = .ok (.iadd, 1) := dk_96 (dk_at dksX5_isWord_1 18 rfl rfl)
theorem dX5_isWord_43 : decode cX5_isWord 43 = .ok (.invokevirtual 32, 3) := dk_182 0 32 (dk_at dksX5_isWord_1 19 rfl rfl)
theorem dX5_isWord_46 : decode cX5_isWord 46 = .ok (.aload_n 1, 1) := dk_43 (dk_at dksX5_isWord_1 22 rfl rfl)
theorem dX5_isWord_47 : decode cX5_isWord 47 = .ok (.iload_n 2, 1) := dk_28 (dk_at dksX5_isWord_1 23 rfl rfl)
theorem dX5_isWord_48 : decode cX5_isWord 48 = .ok (.invokevirtual 68, 3) := dk_182 0 68 (dk_at dksX5_isWord_2 0 rfl rfl)
theorem dX5_isWord_51 : decode cX5_isWord 51 = .ok (.if_icmp .ne 9, 3) := dk_160 0 9 (dk_at dksX5_isWord_2 3 rfl rfl)
theorem dX5_isWord_54 : decode cX5_isWord 54 = .ok (.iinc 2 1, 3) := dk_132 2 1 (dk_at dksX5_isWord_2 6 rfl rfl)
theorem dX5_isWord_57 : decode cX5_isWord 57 = .ok (.goto (-29), 3) := dk_167 255 227 (dk_at dksX5_isWord_2 9 rfl rfl)
theorem dX5_isWord_60 : decode cX5_isWord 60 = .ok (.iload_n 2, 1) := dk_28 (dk_at dksX5_isWord_2 12 rfl rfl)
theorem dX5_isWord_61 : decode cX5_isWord 61 = .ok (.aload_n 1, 1) := dk_43 (dk_at dksX5_isWord_2 13 rfl rfl)
theorem dX5_isWord_62 : decode cX5_isWord 62 = .ok (.invokevirtual 62, 3) := dk_182 0 62 (dk_at dksX5_isWord_2 14 rfl rfl)
theorem dX5_isWord_65 : decode cX5_isWord 65 = .ok (.if_icmp .ne 7, 3) := dk_160 0 7 (dk_at dksX5_isWord_2 17 rfl rfl)
theorem dX5_isWord_68 : decode cX5_isWord 68 = .ok (.iconst 1, 1) := dk_4 (dk_at dksX5_isWord_2 20 rfl rfl)
theorem dX5_isWord_69 : decode cX5_isWord 69 = .ok (.goto 4, 3) := dk_167 0 4 (dk_at dksX5_isWord_2 21 rfl rfl)
theorem dX5_isWord_72 : decode cX5_isWord 72 = .ok (.iconst 0, 1) := dk_3 (dk_at dksX5_isWord_3 0 rfl rfl)
theorem dX5_isWord_73 : decode cX5_isWord 73 = .ok (.ireturn, 1) := dk_172 (dk_at dksX5_isWord_3 1 rfl rfl)
abbrev cX5_wrong : ByteArray := prog_13_method_13_code
def yX5_wrong : MethodName := ⟨RX5, "wrong", "()LTubBites$Wrong;"⟩
def dkwX5_wrong_1 : List UInt8 := [176]
abbrev dktX5_wrong_1 : List UInt8 := dkwX5_wrong_1 ++ []
def dkwX5_wrong_0 : List UInt8 := [187, 0, 84, 89, 42, 180, 0, 36, 7, 160, 0, 7, 4, 167, 0, 4, 5, 42, 180, 0, 29, 183, 0, 86]
abbrev dktX5_wrong_0 : List UInt8 := dkwX5_wrong_0 ++ dktX5_wrong_1
theorem dksX5_wrong_0 : cX5_wrong.data.toList.drop 0 = dktX5_wrong_0 := by decide +kernel
theorem dksX5_wrong_1 : cX5_wrong.data.toList.drop 24 = dktX5_wrong_1 := dk_seg dksX5_wrong_0 24 rfl rfl
theorem dX5_wrong_0 : decode cX5_wrong 0 = .ok (.new 84, 3) := dk_187 0 84 (dk_at dksX5_wrong_0 0 rfl rfl)
theorem dX5_wrong_3 : decode cX5_wrong 3 = .ok (.dup, 1) := dk_89 (dk_at dksX5_wrong_0 3 rfl rfl)
theorem dX5_wrong_4 : decode cX5_wrong 4 = .ok (.aload_n 0, 1) := dk_42 (dk_at dksX5_wrong_0 4 rfl rfl)
theorem dX5_wrong_5 : decode cX5_wrong 5 = .ok (.getfield 36, 3) := dk_180 0 36 (dk_at dksX5_wrong_0 5 rfl rfl)
theorem dX5_wrong_8 : decode cX5_wrong 8 = .ok (.iconst 4, 1) := dk_7 (dk_at dksX5_wrong_0 8 rfl rfl)
theorem dX5_wrong_9 : decode cX5_wrong 9 = .ok (.if_icmp .ne 7, 3) := dk_160 0 7 (dk_at dksX5_wrong_0 9 rfl rfl)
theorem dX5_wrong_12 : decode cX5_wrong 12 = .ok (.iconst 1, 1) := dk_4 (dk_at dksX5_wrong_0 12 rfl rfl)
theorem dX5_wrong_13 : decode cX5_wrong 13 = .ok (.goto 4, 3) := dk_167 0 4 (dk_at dksX5_wrong_0 13 rfl rfl)
theorem dX5_wrong_16 : decode cX5_wrong 16 = .ok (.iconst 2, 1) := dk_5 (dk_at dksX5_wrong_0 16 rfl rfl)
theorem dX5_wrong_17 : decode cX5_wrong 17 = .ok (.aload_n 0, 1) := dk_42 (dk_at dksX5_wrong_0 17 rfl rfl)
theorem dX5_wrong_18 : decode cX5_wrong 18 = .ok (.getfield 29, 3) := dk_180 0 29 (dk_at dksX5_wrong_0 18 rfl rfl)
theorem dX5_wrong_21 : decode cX5_wrong 21 = .ok (.invokespecial 86, 3) := dk_183 0 86 (dk_at dksX5_wrong_0 21 rfl rfl)
theorem dX5_wrong_24 : decode cX5_wrong 24 = .ok (.areturn, 1) := dk_176 (dk_at dksX5_wrong_1 0 rfl rfl)
abbrev cX5_has : ByteArray := prog_13_method_17_code
def yX5_has : MethodName := ⟨RX5, "has", "(Ljava/lang/String;)Z"⟩
def dkwX5_has_0 : List UInt8 := [42, 43, 182, 0, 72, 61, 28, 153, 0, 7, 42, 182, 0, 93, 28, 172]
abbrev dktX5_has_0 : List UInt8 := dkwX5_has_0 ++ []
theorem dksX5_has_0 : cX5_has.data.toList.drop 0 = dktX5_has_0 := by decide +kernel
theorem dX5_has_0 : decode cX5_has 0 = .ok (.aload_n 0, 1) := dk_42 (dk_at dksX5_has_0 0 rfl rfl)
theorem dX5_has_1 : decode cX5_has 1 = .ok (.aload_n 1, 1) := dk_43 (dk_at dksX5_has_0 1 rfl rfl)
theorem dX5_has_2 : decode cX5_has 2 = .ok (.invokevirtual 72, 3) := dk_182 0 72 (dk_at dksX5_has_0 2 rfl rfl)
theorem dX5_has_5 : decode cX5_has 5 = .ok (.istore_n 2, 1) := dk_61 (dk_at dksX5_has_0 5 rfl rfl)
theorem dX5_has_6 : decode cX5_has 6 = .ok (.iload_n 2, 1) := dk_28 (dk_at dksX5_has_0 6 rfl rfl)
theorem dX5_has_7 : decode cX5_has 7 = .ok (.ifCond .eq 7, 3) := dk_153 0 7 (dk_at dksX5_has_0 7 rfl rfl)
theorem dX5_has_10 : decode cX5_has 10 = .ok (.aload_n 0, 1) := dk_42 (dk_at dksX5_has_0 10 rfl rfl)
theorem dX5_has_11 : decode cX5_has 11 = .ok (.invokevirtual 93, 3) := dk_182 0 93 (dk_at dksX5_has_0 11 rfl rfl)
theorem dX5_has_14 : decode cX5_has 14 = .ok (.iload_n 2, 1) := dk_28 (dk_at dksX5_has_0 14 rfl rfl)
theorem dX5_has_15 : decode cX5_has 15 = .ok (.ireturn, 1) := dk_172 (dk_at dksX5_has_0 15 rfl rfl)
abbrev cX5_tub : ByteArray := prog_13_method_22_code
def yX5_tub : MethodName := ⟨RX5, "tub", "()V"⟩
def dkwX5_tub_1 : List UInt8 := [180, 0, 12, 42, 18, 137, 4, 16, 6, 182, 0, 139, 181, 0, 143, 177]
abbrev dktX5_tub_1 : List UInt8 := dkwX5_tub_1 ++ []
def dkwX5_tub_0 : List UInt8 := [42, 180, 0, 12, 4, 181, 0, 130, 42, 180, 0, 12, 42, 4, 16, 6, 182, 0, 100, 181, 0, 134, 42]
abbrev dktX5_tub_0 : List UInt8 := dkwX5_tub_0 ++ dktX5_tub_1
theorem dksX5_tub_0 : cX5_tub.data.toList.drop 0 = dktX5_tub_0 := by decide +kernel
theorem dksX5_tub_1 : cX5_tub.data.toList.drop 23 = dktX5_tub_1 := dk_seg dksX5_tub_0 23 rfl rfl
theorem dX5_tub_0 : decode cX5_tub 0 = .ok (.aload_n 0, 1) := dk_42 (dk_at dksX5_tub_0 0 rfl rfl)
theorem dX5_tub_1 : decode cX5_tub 1 = .ok (.getfield 12, 3) := dk_180 0 12 (dk_at dksX5_tub_0 1 rfl rfl)
theorem dX5_tub_4 : decode cX5_tub 4 = .ok (.iconst 1, 1) := dk_4 (dk_at dksX5_tub_0 4 rfl rfl)
theorem dX5_tub_5 : decode cX5_tub 5 = .ok (.putfield 130, 3) := dk_181 0 130 (dk_at dksX5_tub_0 5 rfl rfl)
theorem dX5_tub_8 : decode cX5_tub 8 = .ok (.aload_n 0, 1) := dk_42 (dk_at dksX5_tub_0 8 rfl rfl)
theorem dX5_tub_9 : decode cX5_tub 9 = .ok (.getfield 12, 3) := dk_180 0 12 (dk_at dksX5_tub_0 9 rfl rfl)
theorem dX5_tub_12 : decode cX5_tub 12 = .ok (.aload_n 0, 1) := dk_42 (dk_at dksX5_tub_0 12 rfl rfl)
theorem dX5_tub_13 : decode cX5_tub 13 = .ok (.iconst 1, 1) := dk_4 (dk_at dksX5_tub_0 13 rfl rfl)
theorem dX5_tub_14 : decode cX5_tub 14 = .ok (.bipush 6, 2) := dk_16 6 (dk_at dksX5_tub_0 14 rfl rfl)
theorem dX5_tub_16 : decode cX5_tub 16 = .ok (.invokevirtual 100, 3) := dk_182 0 100 (dk_at dksX5_tub_0 16 rfl rfl)
theorem dX5_tub_19 : decode cX5_tub 19 = .ok (.putfield 134, 3) := dk_181 0 134 (dk_at dksX5_tub_0 19 rfl rfl)
theorem dX5_tub_22 : decode cX5_tub 22 = .ok (.aload_n 0, 1) := dk_42 (dk_at dksX5_tub_0 22 rfl rfl)
theorem dX5_tub_23 : decode cX5_tub 23 = .ok (.getfield 12, 3) := dk_180 0 12 (dk_at dksX5_tub_1 0 rfl rfl)
theorem dX5_tub_26 : decode cX5_tub 26 = .ok (.aload_n 0, 1) := dk_42 (dk_at dksX5_tub_1 3 rfl rfl)
theorem dX5_tub_27 : decode cX5_tub 27 = .ok (.ldc 137, 2) := dk_18 137 (dk_at dksX5_tub_1 4 rfl rfl)
theorem dX5_tub_29 : decode cX5_tub 29 = .ok (.iconst 1, 1) := dk_4 (dk_at dksX5_tub_1 6 rfl rfl)
theorem dX5_tub_30 : decode cX5_tub 30 = .ok (.bipush 6, 2) := dk_16 6 (dk_at dksX5_tub_1 7 rfl rfl)
theorem dX5_tub_32 : decode cX5_tub 32 = .ok (.invokevirtual 139, 3) := dk_182 0 139 (dk_at dksX5_tub_1 9 rfl rfl)
theorem dX5_tub_35 : decode cX5_tub 35 = .ok (.putfield 143, 3) := dk_181 0 143 (dk_at dksX5_tub_1 12 rfl rfl)
theorem dX5_tub_38 : decode cX5_tub 38 = .ok (.return_, 1) := dk_177 (dk_at dksX5_tub_1 15 rfl rfl)
abbrev cX5_number : ByteArray := prog_13_method_15_code
def yX5_number : MethodName := ⟨RX5, "number", "(II)I"⟩
def dkwX5_number_2 : List UInt8 := [62, 42, 182, 0, 93, 29, 172]
abbrev dktX5_number_2 : List UInt8 := dkwX5_number_2 ++ []
def dkwX5_number_1 : List UInt8 := [180, 0, 59, 28, 164, 0, 16, 187, 0, 84, 89, 7, 42, 180, 0, 29, 183, 0, 86, 191, 42, 180, 0, 59]
abbrev dktX5_number_1 : List UInt8 := dkwX5_number_1 ++ dktX5_number_2
def dkwX5_number_0 : List UInt8 := [42, 180, 0, 36, 5, 159, 0, 8, 42, 182, 0, 89, 191, 42, 180, 0, 59, 27, 161, 0, 11, 42]
abbrev dktX5_number_0 : List UInt8 := dkwX5_number_0 ++ dktX5_number_1
theorem dksX5_number_0 : cX5_number.data.toList.drop 0 = dktX5_number_0 := by decide +kernel
theorem dksX5_number_1 : cX5_number.data.toList.drop 22 = dktX5_number_1 := dk_seg dksX5_number_0 22 rfl rfl
theorem dksX5_number_2 : cX5_number.data.toList.drop 46 = dktX5_number_2 := dk_seg dksX5_number_1 24 rfl rfl
theorem dX5_number_0 : decode cX5_number 0 = .ok (.aload_n 0, 1) := dk_42 (dk_at dksX5_number_0 0 rfl rfl)
theorem dX5_number_1 : decode cX5_number 1 = .ok (.getfield 36, 3) := dk_180 0 36 (dk_at dksX5_number_0 1 rfl rfl)
theorem dX5_number_4 : decode cX5_number 4 = .ok (.iconst 2, 1) := dk_5 (dk_at dksX5_number_0 4 rfl rfl)
theorem dX5_number_5 : decode cX5_number 5 = .ok (.if_icmp .eq 8, 3) := dk_159 0 8 (dk_at dksX5_number_0 5 rfl rfl)
theorem dX5_number_8 : decode cX5_number 8 = .ok (.aload_n 0, 1) := dk_42 (dk_at dksX5_number_0 8 rfl rfl)
theorem dX5_number_9 : decode cX5_number 9 = .ok (.invokevirtual 89, 3) := dk_182 0 89 (dk_at dksX5_number_0 9 rfl rfl)
theorem dX5_number_12 : decode cX5_number 12 = .ok (.athrow, 1) := dk_191 (dk_at dksX5_number_0 12 rfl rfl)
theorem dX5_number_13 : decode cX5_number 13 = .ok (.aload_n 0, 1) := dk_42 (dk_at dksX5_number_0 13 rfl rfl)
theorem dX5_number_14 : decode cX5_number 14 = .ok (.getfield 59, 3) := dk_180 0 59 (dk_at dksX5_number_0 14 rfl rfl)
theorem dX5_number_17 : decode cX5_number 17 = .ok (.iload_n 1, 1) := dk_27 (dk_at dksX5_number_0 17 rfl rfl)
theorem dX5_number_18 : decode cX5_number 18 = .ok (.if_icmp .lt 11, 3) := dk_161 0 11 (dk_at dksX5_number_0 18 rfl rfl)
theorem dX5_number_21 : decode cX5_number 21 = .ok (.aload_n 0, 1) := dk_42 (dk_at dksX5_number_0 21 rfl rfl)
theorem dX5_number_22 : decode cX5_number 22 = .ok (.getfield 59, 3) := dk_180 0 59 (dk_at dksX5_number_1 0 rfl rfl)
theorem dX5_number_25 : decode cX5_number 25 = .ok (.iload_n 2, 1) := dk_28 (dk_at dksX5_number_1 3 rfl rfl)
theorem dX5_number_26 : decode cX5_number 26 = .ok (.if_icmp .le 16, 3) := dk_164 0 16 (dk_at dksX5_number_1 4 rfl rfl)
theorem dX5_number_29 : decode cX5_number 29 = .ok (.new 84, 3) := dk_187 0 84 (dk_at dksX5_number_1 7 rfl rfl)
theorem dX5_number_32 : decode cX5_number 32 = .ok (.dup, 1) := dk_89 (dk_at dksX5_number_1 10 rfl rfl)
theorem dX5_number_33 : decode cX5_number 33 = .ok (.iconst 4, 1) := dk_7 (dk_at dksX5_number_1 11 rfl rfl)
theorem dX5_number_34 : decode cX5_number 34 = .ok (.aload_n 0, 1) := dk_42 (dk_at dksX5_number_1 12 rfl rfl)
theorem dX5_number_35 : decode cX5_number 35 = .ok (.getfield 29, 3) := dk_180 0 29 (dk_at dksX5_number_1 13 rfl rfl)
theorem dX5_number_38 : decode cX5_number 38 = .ok (.invokespecial 86, 3) := dk_183 0 86 (dk_at dksX5_number_1 16 rfl rfl)
theorem dX5_number_41 : decode cX5_number 41 = .ok (.athrow, 1) := dk_191 (dk_at dksX5_number_1 19 rfl rfl)
theorem dX5_number_42 : decode cX5_number 42 = .ok (.aload_n 0, 1) := dk_42 (dk_at dksX5_number_1 20 rfl rfl)
theorem dX5_number_43 : decode cX5_number 43 = .ok (.getfield 59, 3) := dk_180 0 59 (dk_at dksX5_number_1 21 rfl rfl)
theorem dX5_number_46 : decode cX5_number 46 = .ok (.istore_n 3, 1) := dk_62 (dk_at dksX5_number_2 0 rfl rfl)
theorem dX5_number_47 : decode cX5_number 47 = .ok (.aload_n 0, 1) := dk_42 (dk_at dksX5_number_2 1 rfl rfl)
theorem dX5_number_48 : decode cX5_number 48 = .ok (.invokevirtual 93, 3) := dk_182 0 93 (dk_at dksX5_number_2 2 rfl rfl)
theorem dX5_number_51 : decode cX5_number 51 = .ok (.iload_n 3, 1) := dk_29 (dk_at dksX5_number_2 5 rfl rfl)
theorem dX5_number_52 : decode cX5_number 52 = .ok (.ireturn, 1) := dk_172 (dk_at dksX5_number_2 6 rfl rfl)
abbrev cX5_after : ByteArray := prog_13_method_16_code
def yX5_after : MethodName := ⟨RX5, "after", "(Ljava/lang/String;II)I"⟩
def dkwX5_after_0 : List UInt8 := [42, 42, 43, 182, 0, 72, 182, 0, 96, 42, 28, 29, 182, 0, 100, 172]
abbrev dktX5_after_0 : List UInt8 := dkwX5_after_0 ++ []
theorem dksX5_after_0 : cX5_after.data.toList.drop 0 = dktX5_after_0 := by decide +kernel
theorem dX5_after_0 : decode cX5_after 0 = .ok (.aload_n 0, 1) := dk_42 (dk_at dksX5_after_0 0 rfl rfl)
theorem dX5_after_1 : decode cX5_after 1 = .ok (.aload_n 0, 1) := dk_42 (dk_at dksX5_after_0 1 rfl rfl)
theorem dX5_after_2 : decode cX5_after 2 = .ok (.aload_n 1, 1) := dk_43 (dk_at dksX5_after_0 2 rfl rfl)
theorem dX5_after_3 : decode cX5_after 3 = .ok (.invokevirtual 72, 3) := dk_182 0 72 (dk_at dksX5_after_0 3 rfl rfl)
theorem dX5_after_6 : decode cX5_after 6 = .ok (.invokevirtual 96, 3) := dk_182 0 96 (dk_at dksX5_after_0 6 rfl rfl)
theorem dX5_after_9 : decode cX5_after 9 = .ok (.aload_n 0, 1) := dk_42 (dk_at dksX5_after_0 9 rfl rfl)
theorem dX5_after_10 : decode cX5_after 10 = .ok (.iload_n 2, 1) := dk_28 (dk_at dksX5_after_0 10 rfl rfl)
theorem dX5_after_11 : decode cX5_after 11 = .ok (.iload_n 3, 1) := dk_29 (dk_at dksX5_after_0 11 rfl rfl)
theorem dX5_after_12 : decode cX5_after 12 = .ok (.invokevirtual 100, 3) := dk_182 0 100 (dk_at dksX5_after_0 12 rfl rfl)
theorem dX5_after_15 : decode cX5_after 15 = .ok (.ireturn, 1) := dk_172 (dk_at dksX5_after_0 15 rfl rfl)
abbrev cX5_must : ByteArray := prog_13_method_14_code
def yX5_must : MethodName := ⟨RX5, "must", "(Z)V"⟩
def dkwX5_must_0 : List UInt8 := [27, 154, 0, 8, 42, 182, 0, 89, 191, 42, 182, 0, 93, 177]
abbrev dktX5_must_0 : List UInt8 := dkwX5_must_0 ++ []
theorem dksX5_must_0 : cX5_must.data.toList.drop 0 = dktX5_must_0 := by decide +kernel
theorem dX5_must_0 : decode cX5_must 0 = .ok (.iload_n 1, 1) := dk_27 (dk_at dksX5_must_0 0 rfl rfl)
theorem dX5_must_1 : decode cX5_must 1 = .ok (.ifCond .ne 8, 3) := dk_154 0 8 (dk_at dksX5_must_0 1 rfl rfl)
theorem dX5_must_4 : decode cX5_must 4 = .ok (.aload_n 0, 1) := dk_42 (dk_at dksX5_must_0 4 rfl rfl)
theorem dX5_must_5 : decode cX5_must 5 = .ok (.invokevirtual 89, 3) := dk_182 0 89 (dk_at dksX5_must_0 5 rfl rfl)
theorem dX5_must_8 : decode cX5_must 8 = .ok (.athrow, 1) := dk_191 (dk_at dksX5_must_0 8 rfl rfl)
theorem dX5_must_9 : decode cX5_must 9 = .ok (.aload_n 0, 1) := dk_42 (dk_at dksX5_must_0 9 rfl rfl)
theorem dX5_must_10 : decode cX5_must 10 = .ok (.invokevirtual 93, 3) := dk_182 0 93 (dk_at dksX5_must_0 10 rfl rfl)
theorem dX5_must_13 : decode cX5_must 13 = .ok (.return_, 1) := dk_177 (dk_at dksX5_must_0 13 rfl rfl)
abbrev cX5_rule : ByteArray := prog_13_method_24_code
def yX5_rule : MethodName := ⟨RX5, "rule", "()V"⟩
def dkwX5_rule_2 : List UInt8 := [182, 0, 171, 87, 177]
abbrev dktX5_rule_2 : List UInt8 := dkwX5_rule_2 ++ []
def dkwX5_rule_1 : List UInt8 := [3, 182, 0, 164, 64, 42, 180, 0, 12, 180, 0, 103, 187, 0, 115, 89, 31, 42, 182, 0, 153, 183, 0, 168]
abbrev dktX5_rule_1 : List UInt8 := dkwX5_rule_1 ++ dktX5_rule_2
def dkwX5_rule_0 : List UInt8 := [42, 182, 0, 157, 154, 0, 8, 42, 182, 0, 89, 191, 42, 42, 182, 0, 161, 155, 0, 7, 4, 167, 0, 4]
abbrev dktX5_rule_0 : List UInt8 := dkwX5_rule_0 ++ dktX5_rule_1
theorem dksX5_rule_0 : cX5_rule.data.toList.drop 0 = dktX5_rule_0 := by decide +kernel
theorem dksX5_rule_1 : cX5_rule.data.toList.drop 24 = dktX5_rule_1 := dk_seg dksX5_rule_0 24 rfl rfl
theorem dksX5_rule_2 : cX5_rule.data.toList.drop 48 = dktX5_rule_2 := dk_seg dksX5_rule_1 24 rfl rfl
theorem dX5_rule_0 : decode cX5_rule 0 = .ok (.aload_n 0, 1) := dk_42 (dk_at dksX5_rule_0 0 rfl rfl)
theorem dX5_rule_1 : decode cX5_rule 1 = .ok (.invokevirtual 157, 3) := dk_182 0 157 (dk_at dksX5_rule_0 1 rfl rfl)
theorem dX5_rule_4 : decode cX5_rule 4 = .ok (.ifCond .ne 8, 3) := dk_154 0 8 (dk_at dksX5_rule_0 4 rfl rfl)
theorem dX5_rule_7 : decode cX5_rule 7 = .ok (.aload_n 0, 1) := dk_42 (dk_at dksX5_rule_0 7 rfl rfl)
theorem dX5_rule_8 : decode cX5_rule 8 = .ok (.invokevirtual 89, 3) := dk_182 0 89 (dk_at dksX5_rule_0 8 rfl rfl)
theorem dX5_rule_11 : decode cX5_rule 11 = .ok (.athrow, 1) := dk_191 (dk_at dksX5_rule_0 11 rfl rfl)
theorem dX5_rule_12 : decode cX5_rule 12 = .ok (.aload_n 0, 1) := dk_42 (dk_at dksX5_rule_0 12 rfl rfl)
theorem dX5_rule_13 : decode cX5_rule 13 = .ok (.aload_n 0, 1) := dk_42 (dk_at dksX5_rule_0 13 rfl rfl)
theorem dX5_rule_14 : decode cX5_rule 14 = .ok (.invokevirtual 161, 3) := dk_182 0 161 (dk_at dksX5_rule_0 14 rfl rfl)
theorem dX5_rule_17 : decode cX5_rule 17 = .ok (.ifCond .lt 7, 3) := dk_155 0 7 (dk_at dksX5_rule_0 17 rfl rfl)
theorem dX5_rule_20 : decode cX5_rule 20 = .ok (.iconst 1, 1) := dk_4 (dk_at dksX5_rule_0 20 rfl rfl)
theorem dX5_rule_21 : decode cX5_rule 21 = .ok (.goto 4, 3) := dk_167 0 4 (dk_at dksX5_rule_0 21 rfl rfl)
theorem dX5_rule_24 : decode cX5_rule 24 = .ok (.iconst 0, 1) := dk_3 (dk_at dksX5_rule_1 0 rfl rfl)
theorem dX5_rule_25 : decode cX5_rule 25 = .ok (.invokevirtual 164, 3) := dk_182 0 164 (dk_at dksX5_rule_1 1 rfl rfl)
theorem dX5_rule_28 : decode cX5_rule 28 = .ok (.lstore_n 1, 1) := dk_64 (dk_at dksX5_rule_1 4 rfl rfl)
theorem dX5_rule_29 : decode cX5_rule 29 = .ok (.aload_n 0, 1) := dk_42 (dk_at dksX5_rule_1 5 rfl rfl)
theorem dX5_rule_30 : decode cX5_rule 30 = .ok (.getfield 12, 3) := dk_180 0 12 (dk_at dksX5_rule_1 6 rfl rfl)
theorem dX5_rule_33 : decode cX5_rule 33 = .ok (.getfield 103, 3) := dk_180 0 103 (dk_at dksX5_rule_1 9 rfl rfl)
theorem dX5_rule_36 : decode cX5_rule 36 = .ok (.new 115, 3) := dk_187 0 115 (dk_at dksX5_rule_1 12 rfl rfl)
theorem dX5_rule_39 : decode cX5_rule 39 = .ok (.dup, 1) := dk_89 (dk_at dksX5_rule_1 15 rfl rfl)
theorem dX5_rule_40 : decode cX5_rule 40 = .ok (.lload_n 1, 1) := dk_31 (dk_at dksX5_rule_1 16 rfl rfl)
theorem dX5_rule_41 : decode cX5_rule 41 = .ok (.aload_n 0, 1) := dk_42 (dk_at dksX5_rule_1 17 rfl rfl)
theorem dX5_rule_42 : decode cX5_rule 42 = .ok (.invokevirtual 153, 3) := dk_182 0 153 (dk_at dksX5_rule_1 18 rfl rfl)
theorem dX5_rule_45 : decode cX5_rule 45 = .ok (.invokespecial 168, 3) := dk_183 0 168 (dk_at dksX5_rule_1 21 rfl rfl)
theorem dX5_rule_48 : decode cX5_rule 48 = .ok (.invokevirtual 171, 3) := dk_182 0 171 (dk_at dksX5_rule_2 0 rfl rfl)
theorem dX5_rule_51 : decode cX5_rule 51 = .ok (.pop, 1) := dk_87 (dk_at dksX5_rule_2 3 rfl rfl)
theorem dX5_rule_52 : decode cX5_rule 52 = .ok (.return_, 1) := dk_177 (dk_at dksX5_rule_2 4 rfl rfl)
abbrev cX5_isName : ByteArray := prog_13_method_12_code
def yX5_isName : MethodName := ⟨RX5, "isName", "()Z"⟩
def dkwX5_isName_0 : List UInt8 := [42, 180, 0, 36, 4, 160, 0, 17, 42, 178, 0, 76, 182, 0, 80, 156, 0, 7, 4, 167, 0, 4, 3, 172]
abbrev dktX5_isName_0 : List UInt8 := dkwX5_isName_0 ++ []
theorem dksX5_isName_0 : cX5_isName.data.toList.drop 0 = dktX5_isName_0 := by decide +kernel
theorem dX5_isName_0 : decode cX5_isName 0 = .ok (.aload_n 0, 1) := dk_42 (dk_at dksX5_isName_0 0 rfl rfl)
theorem dX5_isName_1 : decode cX5_isName 1 = .ok (.getfield 36, 3) := dk_180 0 36 (dk_at dksX5_isName_0 1 rfl rfl)
theorem dX5_isName_4 : decode cX5_isName 4 = .ok (.iconst 1, 1) := dk_4 (dk_at dksX5_isName_0 4 rfl rfl)
theorem dX5_isName_5 : decode cX5_isName 5 = .ok (.if_icmp .ne 17, 3) := dk_160 0 17 (dk_at dksX5_isName_0 5 rfl rfl)
theorem dX5_isName_8 : decode cX5_isName 8 = .ok (.aload_n 0, 1) := dk_42 (dk_at dksX5_isName_0 8 rfl rfl)
theorem dX5_isName_9 : decode cX5_isName 9 = .ok (.getstatic 76, 3) := dk_178 0 76 (dk_at dksX5_isName_0 9 rfl rfl)
theorem dX5_isName_12 : decode cX5_isName 12 = .ok (.invokevirtual 80, 3) := dk_182 0 80 (dk_at dksX5_isName_0 12 rfl rfl)
theorem dX5_isName_15 : decode cX5_isName 15 = .ok (.ifCond .ge 7, 3) := dk_156 0 7 (dk_at dksX5_isName_0 15 rfl rfl)
theorem dX5_isName_18 : decode cX5_isName 18 = .ok (.iconst 1, 1) := dk_4 (dk_at dksX5_isName_0 18 rfl rfl)
theorem dX5_isName_19 : decode cX5_isName 19 = .ok (.goto 4, 3) := dk_167 0 4 (dk_at dksX5_isName_0 19 rfl rfl)
theorem dX5_isName_22 : decode cX5_isName 22 = .ok (.iconst 0, 1) := dk_3 (dk_at dksX5_isName_0 22 rfl rfl)
theorem dX5_isName_23 : decode cX5_isName 23 = .ok (.ireturn, 1) := dk_172 (dk_at dksX5_isName_0 23 rfl rfl)
abbrev cX5_which : ByteArray := prog_13_method_10_code
def yX5_which : MethodName := ⟨RX5, "which", "([Ljava/lang/String;)I"⟩
def dkwX5_which_1 : List UInt8 := [167, 255, 235, 2, 172]
abbrev dktX5_which_1 : List UInt8 := dkwX5_which_1 ++ []
def dkwX5_which_0 : List UInt8 := [3, 61, 28, 43, 190, 162, 0, 21, 42, 43, 28, 50, 182, 0, 72, 153, 0, 5, 28, 172, 132, 2, 1]
abbrev dktX5_which_0 : List UInt8 := dkwX5_which_0 ++ dktX5_which_1
theorem dksX5_which_0 : cX5_which.data.toList.drop 0 = dktX5_which_0 := by decide +kernel
theorem dksX5_which_1 : cX5_which.data.toList.drop 23 = dktX5_which_1 := dk_seg dksX5_which_0 23 rfl rfl
theorem dX5_which_0 : decode cX5_which 0 = .ok (.iconst 0, 1) := dk_3 (dk_at dksX5_which_0 0 rfl rfl)
theorem dX5_which_1 : decode cX5_which 1 = .ok (.istore_n 2, 1) := dk_61 (dk_at dksX5_which_0 1 rfl rfl)
theorem dX5_which_2 : decode cX5_which 2 = .ok (.iload_n 2, 1) := dk_28 (dk_at dksX5_which_0 2 rfl rfl)
theorem dX5_which_3 : decode cX5_which 3 = .ok (.aload_n 1, 1) := dk_43 (dk_at dksX5_which_0 3 rfl rfl)
theorem dX5_which_4 : decode cX5_which 4 = .ok (.arraylength, 1) := dk_190 (dk_at dksX5_which_0 4 rfl rfl)
theorem dX5_which_5 : decode cX5_which 5 = .ok (.if_icmp .ge 21, 3) := dk_162 0 21 (dk_at dksX5_which_0 5 rfl rfl)
theorem dX5_which_8 : decode cX5_which 8 = .ok (.aload_n 0, 1) := dk_42 (dk_at dksX5_which_0 8 rfl rfl)
theorem dX5_which_9 : decode cX5_which 9 = .ok (.aload_n 1, 1) := dk_43 (dk_at dksX5_which_0 9 rfl rfl)
theorem dX5_which_10 : decode cX5_which 10 = .ok (.iload_n 2, 1) := dk_28 (dk_at dksX5_which_0 10 rfl rfl)
theorem dX5_which_11 : decode cX5_which 11 = .ok (.aaload, 1) := dk_50 (dk_at dksX5_which_0 11 rfl rfl)
theorem dX5_which_12 : decode cX5_which 12 = .ok (.invokevirtual 72, 3) := dk_182 0 72 (dk_at dksX5_which_0 12 rfl rfl)
theorem dX5_which_15 : decode cX5_which 15 = .ok (.ifCond .eq 5, 3) := dk_153 0 5 (dk_at dksX5_which_0 15 rfl rfl)
theorem dX5_which_18 : decode cX5_which 18 = .ok (.iload_n 2, 1) := dk_28 (dk_at dksX5_which_0 18 rfl rfl)
theorem dX5_which_19 : decode cX5_which 19 = .ok (.ireturn, 1) := dk_172 (dk_at dksX5_which_0 19 rfl rfl)
theorem dX5_which_20 : decode cX5_which 20 = .ok (.iinc 2 1, 3) := dk_132 2 1 (dk_at dksX5_which_0 20 rfl rfl)
theorem dX5_which_23 : decode cX5_which 23 = .ok (.goto (-21), 3) := dk_167 255 235 (dk_at dksX5_which_1 0 rfl rfl)
theorem dX5_which_26 : decode cX5_which 26 = .ok (.iconst (-1), 1) := dk_2 (dk_at dksX5_which_1 3 rfl rfl)
theorem dX5_which_27 : decode cX5_which 27 = .ok (.ireturn, 1) := dk_172 (dk_at dksX5_which_1 4 rfl rfl)
abbrev cX5_ruleHere : ByteArray := prog_13_method_19_code
def yX5_ruleHere : MethodName := ⟨RX5, "ruleHere", "()I"⟩
def dkwX5_ruleHere_2 : List UInt8 := [167, 255, 212, 2, 172]
abbrev dktX5_ruleHere_2 : List UInt8 := dkwX5_ruleHere_2 ++ []
def dkwX5_ruleHere_1 : List UInt8 := [182, 0, 111, 192, 0, 115, 180, 0, 117, 42, 180, 0, 55, 148, 154, 0, 5, 27, 172, 132, 1, 1]
abbrev dktX5_ruleHere_1 : List UInt8 := dkwX5_ruleHere_1 ++ dktX5_ruleHere_2
def dkwX5_ruleHere_0 : List UInt8 := [3, 60, 27, 42, 180, 0, 12, 180, 0, 103, 182, 0, 107, 162, 0, 36, 42, 180, 0, 12, 180, 0, 103, 27]
abbrev dktX5_ruleHere_0 : List UInt8 := dkwX5_ruleHere_0 ++ dktX5_ruleHere_1
theorem dksX5_ruleHere_0 : cX5_ruleHere.data.toList.drop 0 = dktX5_ruleHere_0 := by decide +kernel
theorem dksX5_ruleHere_1 : cX5_ruleHere.data.toList.drop 24 = dktX5_ruleHere_1 := dk_seg dksX5_ruleHere_0 24 rfl rfl
theorem dksX5_ruleHere_2 : cX5_ruleHere.data.toList.drop 46 = dktX5_ruleHere_2 := dk_seg dksX5_ruleHere_1 22 rfl rfl
theorem dX5_ruleHere_0 : decode cX5_ruleHere 0 = .ok (.iconst 0, 1) := dk_3 (dk_at dksX5_ruleHere_0 0 rfl rfl)
theorem dX5_ruleHere_1 : decode cX5_ruleHere 1 = .ok (.istore_n 1, 1) := dk_60 (dk_at dksX5_ruleHere_0 1 rfl rfl)
theorem dX5_ruleHere_2 : decode cX5_ruleHere 2 = .ok (.iload_n 1, 1) := dk_27 (dk_at dksX5_ruleHere_0 2 rfl rfl)
theorem dX5_ruleHere_3 : decode cX5_ruleHere 3 = .ok (.aload_n 0, 1) := dk_42 (dk_at dksX5_ruleHere_0 3 rfl rfl)
theorem dX5_ruleHere_4 : decode cX5_ruleHere 4 = .ok (.getfield 12, 3) := dk_180 0 12 (dk_at dksX5_ruleHere_0 4 rfl rfl)
theorem dX5_ruleHere_7 : decode cX5_ruleHere 7 = .ok (.getfield 103, 3) := dk_180 0 103 (dk_at dksX5_ruleHere_0 7 rfl rfl)
theorem dX5_ruleHere_10 : decode cX5_ruleHere 10 = .ok (.invokevirtual 107, 3) := dk_182 0 107 (dk_at dksX5_ruleHere_0 10 rfl rfl)
theorem dX5_ruleHere_13 : decode cX5_ruleHere 13 = .ok (.if_icmp .ge 36, 3) := dk_162 0 36 (dk_at dksX5_ruleHere_0 13 rfl rfl)
theorem dX5_ruleHere_16 : decode cX5_ruleHere 16 = .ok (.aload_n 0, 1) := dk_42 (dk_at dksX5_ruleHere_0 16 rfl rfl)
theorem dX5_ruleHere_17 : decode cX5_ruleHere 17 = .ok (.getfield 12, 3) := dk_180 0 12 (dk_at dksX5_ruleHere_0 17 rfl rfl)
theorem dX5_ruleHere_20 : decode cX5_ruleHere 20 = .ok (.getfield 103, 3) := dk_180 0 103 (dk_at dksX5_ruleHere_0 20 rfl rfl)
theorem dX5_ruleHere_23 : decode cX5_ruleHere 23 = .ok (.iload_n 1, 1) := dk_27 (dk_at dksX5_ruleHere_0 23 rfl rfl)
theorem dX5_ruleHere_24 : decode cX5_ruleHere 24 = .ok (.invokevirtual 111, 3) := dk_182 0 111 (dk_at dksX5_ruleHere_1 0 rfl rfl)
theorem dX5_ruleHere_27 : decode cX5_ruleHere 27 = .ok (.checkcast 115, 3) := dk_192 0 115 (dk_at dksX5_ruleHere_1 3 rfl rfl)
theorem dX5_ruleHere_30 : decode cX5_ruleHere 30 = .ok (.getfield 117, 3) := dk_180 0 117 (dk_at dksX5_ruleHere_1 6 rfl rfl)
theorem dX5_ruleHere_33 : decode cX5_ruleHere 33 = .ok (.aload_n 0, 1) := dk_42 (dk_at dksX5_ruleHere_1 9 rfl rfl)
theorem dX5_ruleHere_34 : decode cX5_ruleHere 34 = .ok (.getfield 55, 3) := dk_180 0 55 (dk_at dksX5_ruleHere_1 10 rfl rfl)
theorem dX5_ruleHere_37 : decode cX5_ruleHere 37 = .ok (.lcmp, 1) := dk_148 (dk_at dksX5_ruleHere_1 13 rfl rfl)
theorem dX5_ruleHere_38 : decode cX5_ruleHere 38 = .ok (.ifCond .ne 5, 3) := dk_154 0 5 (dk_at dksX5_ruleHere_1 14 rfl rfl)
theorem dX5_ruleHere_41 : decode cX5_ruleHere 41 = .ok (.iload_n 1, 1) := dk_27 (dk_at dksX5_ruleHere_1 17 rfl rfl)
theorem dX5_ruleHere_42 : decode cX5_ruleHere 42 = .ok (.ireturn, 1) := dk_172 (dk_at dksX5_ruleHere_1 18 rfl rfl)
theorem dX5_ruleHere_43 : decode cX5_ruleHere 43 = .ok (.iinc 1 1, 3) := dk_132 1 1 (dk_at dksX5_ruleHere_1 19 rfl rfl)
theorem dX5_ruleHere_46 : decode cX5_ruleHere 46 = .ok (.goto (-44), 3) := dk_167 255 212 (dk_at dksX5_ruleHere_2 0 rfl rfl)
theorem dX5_ruleHere_49 : decode cX5_ruleHere 49 = .ok (.iconst (-1), 1) := dk_2 (dk_at dksX5_ruleHere_2 3 rfl rfl)
theorem dX5_ruleHere_50 : decode cX5_ruleHere 50 = .ok (.ireturn, 1) := dk_172 (dk_at dksX5_ruleHere_2 4 rfl rfl)
abbrev cX5_fresh : ByteArray := prog_13_method_18_code
def yX5_fresh : MethodName := ⟨RX5, "fresh", "(Z)J"⟩
def dkwX5_fresh_1 : List UInt8 := [182, 0, 93, 32, 173]
abbrev dktX5_fresh_1 : List UInt8 := dkwX5_fresh_1 ++ []
def dkwX5_fresh_0 : List UInt8 := [27, 153, 0, 16, 187, 0, 84, 89, 6, 42, 180, 0, 29, 183, 0, 86, 191, 42, 180, 0, 55, 65, 42]
abbrev dktX5_fresh_0 : List UInt8 := dkwX5_fresh_0 ++ dktX5_fresh_1
theorem dksX5_fresh_0 : cX5_fresh.data.toList.drop 0 = dktX5_fresh_0 := by decide +kernel
theorem dksX5_fresh_1 : cX5_fresh.data.toList.drop 23 = dktX5_fresh_1 := dk_seg dksX5_fresh_0 23 rfl rfl
theorem dX5_fresh_0 : decode cX5_fresh 0 = .ok (.iload_n 1, 1) := dk_27 (dk_at dksX5_fresh_0 0 rfl rfl)
theorem dX5_fresh_1 : decode cX5_fresh 1 = .ok (.ifCond .eq 16, 3) := dk_153 0 16 (dk_at dksX5_fresh_0 1 rfl rfl)
theorem dX5_fresh_4 : decode cX5_fresh 4 = .ok (.new 84, 3) := dk_187 0 84 (dk_at dksX5_fresh_0 4 rfl rfl)
theorem dX5_fresh_7 : decode cX5_fresh 7 = .ok (.dup, 1) := dk_89 (dk_at dksX5_fresh_0 7 rfl rfl)
theorem dX5_fresh_8 : decode cX5_fresh 8 = .ok (.iconst 3, 1) := dk_6 (dk_at dksX5_fresh_0 8 rfl rfl)
theorem dX5_fresh_9 : decode cX5_fresh 9 = .ok (.aload_n 0, 1) := dk_42 (dk_at dksX5_fresh_0 9 rfl rfl)
theorem dX5_fresh_10 : decode cX5_fresh 10 = .ok (.getfield 29, 3) := dk_180 0 29 (dk_at dksX5_fresh_0 10 rfl rfl)
theorem dX5_fresh_13 : decode cX5_fresh 13 = .ok (.invokespecial 86, 3) := dk_183 0 86 (dk_at dksX5_fresh_0 13 rfl rfl)
theorem dX5_fresh_16 : decode cX5_fresh 16 = .ok (.athrow, 1) := dk_191 (dk_at dksX5_fresh_0 16 rfl rfl)
theorem dX5_fresh_17 : decode cX5_fresh 17 = .ok (.aload_n 0, 1) := dk_42 (dk_at dksX5_fresh_0 17 rfl rfl)
theorem dX5_fresh_18 : decode cX5_fresh 18 = .ok (.getfield 55, 3) := dk_180 0 55 (dk_at dksX5_fresh_0 18 rfl rfl)
theorem dX5_fresh_21 : decode cX5_fresh 21 = .ok (.lstore_n 2, 1) := dk_65 (dk_at dksX5_fresh_0 21 rfl rfl)
theorem dX5_fresh_22 : decode cX5_fresh 22 = .ok (.aload_n 0, 1) := dk_42 (dk_at dksX5_fresh_0 22 rfl rfl)
theorem dX5_fresh_23 : decode cX5_fresh 23 = .ok (.invokevirtual 93, 3) := dk_182 0 93 (dk_at dksX5_fresh_1 0 rfl rfl)
theorem dX5_fresh_26 : decode cX5_fresh 26 = .ok (.lload_n 2, 1) := dk_32 (dk_at dksX5_fresh_1 3 rfl rfl)
theorem dX5_fresh_27 : decode cX5_fresh 27 = .ok (.lreturn, 1) := dk_173 (dk_at dksX5_fresh_1 4 rfl rfl)
abbrev cX5_formula : ByteArray := prog_13_method_27_code
def yX5_formula : MethodName := ⟨RX5, "formula", "()LTubBites$Part;"⟩
def dkwX5_formula_0 : List UInt8 := [42, 3, 181, 0, 234, 42, 3, 181, 0, 237, 42, 182, 0, 240, 176]
abbrev dktX5_formula_0 : List UInt8 := dkwX5_formula_0 ++ []
theorem dksX5_formula_0 : cX5_formula.data.toList.drop 0 = dktX5_formula_0 := by decide +kernel
theorem dX5_formula_0 : decode cX5_formula 0 = .ok (.aload_n 0, 1) := dk_42 (dk_at dksX5_formula_0 0 rfl rfl)
theorem dX5_formula_1 : decode cX5_formula 1 = .ok (.iconst 0, 1) := dk_3 (dk_at dksX5_formula_0 1 rfl rfl)
theorem dX5_formula_2 : decode cX5_formula 2 = .ok (.putfield 234, 3) := dk_181 0 234 (dk_at dksX5_formula_0 2 rfl rfl)
theorem dX5_formula_5 : decode cX5_formula 5 = .ok (.aload_n 0, 1) := dk_42 (dk_at dksX5_formula_0 5 rfl rfl)
theorem dX5_formula_6 : decode cX5_formula 6 = .ok (.iconst 0, 1) := dk_3 (dk_at dksX5_formula_0 6 rfl rfl)
theorem dX5_formula_7 : decode cX5_formula 7 = .ok (.putfield 237, 3) := dk_181 0 237 (dk_at dksX5_formula_0 7 rfl rfl)
theorem dX5_formula_10 : decode cX5_formula 10 = .ok (.aload_n 0, 1) := dk_42 (dk_at dksX5_formula_0 10 rfl rfl)
theorem dX5_formula_11 : decode cX5_formula 11 = .ok (.invokevirtual 240, 3) := dk_182 0 240 (dk_at dksX5_formula_0 11 rfl rfl)
theorem dX5_formula_14 : decode cX5_formula 14 = .ok (.areturn, 1) := dk_176 (dk_at dksX5_formula_0 14 rfl rfl)
abbrev cX5_either : ByteArray := prog_13_method_28_code
def yX5_either : MethodName := ⟨RX5, "either", "()LTubBites$Part;"⟩
def dkwX5_either_1 : List UInt8 := [182, 0, 243, 183, 0, 250, 76, 167, 255, 232, 43, 176]
abbrev dktX5_either_1 : List UInt8 := dkwX5_either_1 ++ []
def dkwX5_either_0 : List UInt8 := [42, 182, 0, 243, 76, 42, 18, 246, 182, 0, 198, 153, 0, 21, 187, 0, 248, 89, 16, 124, 43, 42]
abbrev dktX5_either_0 : List UInt8 := dkwX5_either_0 ++ dktX5_either_1
theorem dksX5_either_0 : cX5_either.data.toList.drop 0 = dktX5_either_0 := by decide +kernel
theorem dksX5_either_1 : cX5_either.data.toList.drop 22 = dktX5_either_1 := dk_seg dksX5_either_0 22 rfl rfl
theorem dX5_either_0 : decode cX5_either 0 = .ok (.aload_n 0, 1) := dk_42 (dk_at dksX5_either_0 0 rfl rfl)
theorem dX5_either_1 : decode cX5_either 1 = .ok (.invokevirtual 243, 3) := dk_182 0 243 (dk_at dksX5_either_0 1 rfl rfl)
theorem dX5_either_4 : decode cX5_either 4 = .ok (.astore_n 1, 1) := dk_76 (dk_at dksX5_either_0 4 rfl rfl)
theorem dX5_either_5 : decode cX5_either 5 = .ok (.aload_n 0, 1) := dk_42 (dk_at dksX5_either_0 5 rfl rfl)
theorem dX5_either_6 : decode cX5_either 6 = .ok (.ldc 246, 2) := dk_18 246 (dk_at dksX5_either_0 6 rfl rfl)
theorem dX5_either_8 : decode cX5_either 8 = .ok (.invokevirtual 198, 3) := dk_182 0 198 (dk_at dksX5_either_0 8 rfl rfl)
theorem dX5_either_11 : decode cX5_either 11 = .ok (.ifCond .eq 21, 3) := dk_153 0 21 (dk_at dksX5_either_0 11 rfl rfl)
theorem dX5_either_14 : decode cX5_either 14 = .ok (.new 248, 3) := dk_187 0 248 (dk_at dksX5_either_0 14 rfl rfl)
theorem dX5_either_17 : decode cX5_either 17 = .ok (.dup, 1) := dk_89 (dk_at dksX5_either_0 17 rfl rfl)
theorem dX5_either_18 : decode cX5_either 18 = .ok (.bipush 124, 2) := dk_16 124 (dk_at dksX5_either_0 18 rfl rfl)
theorem dX5_either_20 : decode cX5_either 20 = .ok (.aload_n 1, 1) := dk_43 (dk_at dksX5_either_0 20 rfl rfl)
theorem dX5_either_21 : decode cX5_either 21 = .ok (.aload_n 0, 1) := dk_42 (dk_at dksX5_either_0 21 rfl rfl)
theorem dX5_either_22 : decode cX5_either 22 = .ok (.invokevirtual 243, 3) := dk_182 0 243 (dk_at dksX5_either_1 0 rfl rfl)
theorem dX5_either_25 : decode cX5_either 25 = .ok (.invokespecial 250, 3) := dk_183 0 250 (dk_at dksX5_either_1 3 rfl rfl)
theorem dX5_either_28 : decode cX5_either 28 = .ok (.astore_n 1, 1) := dk_76 (dk_at dksX5_either_1 6 rfl rfl)
theorem dX5_either_29 : decode cX5_either 29 = .ok (.goto (-24), 3) := dk_167 255 232 (dk_at dksX5_either_1 7 rfl rfl)
theorem dX5_either_32 : decode cX5_either 32 = .ok (.aload_n 1, 1) := dk_43 (dk_at dksX5_either_1 10 rfl rfl)
theorem dX5_either_33 : decode cX5_either 33 = .ok (.areturn, 1) := dk_176 (dk_at dksX5_either_1 11 rfl rfl)
abbrev cX5_both : ByteArray := prog_13_method_29_code
def yX5_both : MethodName := ⟨RX5, "both", "()LTubBites$Part;"⟩
def dkwX5_both_1 : List UInt8 := [182, 0, 253, 183, 0, 250, 76, 167, 255, 231, 43, 176]
abbrev dktX5_both_1 : List UInt8 := dkwX5_both_1 ++ []
def dkwX5_both_0 : List UInt8 := [42, 182, 0, 253, 76, 42, 19, 1, 0, 182, 0, 198, 153, 0, 21, 187, 0, 248, 89, 16, 38, 43, 42]
abbrev dktX5_both_0 : List UInt8 := dkwX5_both_0 ++ dktX5_both_1
theorem dksX5_both_0 : cX5_both.data.toList.drop 0 = dktX5_both_0 := by decide +kernel
theorem dksX5_both_1 : cX5_both.data.toList.drop 23 = dktX5_both_1 := dk_seg dksX5_both_0 23 rfl rfl
theorem dX5_both_0 : decode cX5_both 0 = .ok (.aload_n 0, 1) := dk_42 (dk_at dksX5_both_0 0 rfl rfl)
theorem dX5_both_1 : decode cX5_both 1 = .ok (.invokevirtual 253, 3) := dk_182 0 253 (dk_at dksX5_both_0 1 rfl rfl)
theorem dX5_both_4 : decode cX5_both 4 = .ok (.astore_n 1, 1) := dk_76 (dk_at dksX5_both_0 4 rfl rfl)
theorem dX5_both_5 : decode cX5_both 5 = .ok (.aload_n 0, 1) := dk_42 (dk_at dksX5_both_0 5 rfl rfl)
theorem dX5_both_6 : decode cX5_both 6 = .ok (.ldc_w 256, 3) := dk_19 1 0 (dk_at dksX5_both_0 6 rfl rfl)
theorem dX5_both_9 : decode cX5_both 9 = .ok (.invokevirtual 198, 3) := dk_182 0 198 (dk_at dksX5_both_0 9 rfl rfl)
theorem dX5_both_12 : decode cX5_both 12 = .ok (.ifCond .eq 21, 3) := dk_153 0 21 (dk_at dksX5_both_0 12 rfl rfl)
theorem dX5_both_15 : decode cX5_both 15 = .ok (.new 248, 3) := dk_187 0 248 (dk_at dksX5_both_0 15 rfl rfl)
theorem dX5_both_18 : decode cX5_both 18 = .ok (.dup, 1) := dk_89 (dk_at dksX5_both_0 18 rfl rfl)
theorem dX5_both_19 : decode cX5_both 19 = .ok (.bipush 38, 2) := dk_16 38 (dk_at dksX5_both_0 19 rfl rfl)
theorem dX5_both_21 : decode cX5_both 21 = .ok (.aload_n 1, 1) := dk_43 (dk_at dksX5_both_0 21 rfl rfl)
theorem dX5_both_22 : decode cX5_both 22 = .ok (.aload_n 0, 1) := dk_42 (dk_at dksX5_both_0 22 rfl rfl)
theorem dX5_both_23 : decode cX5_both 23 = .ok (.invokevirtual 253, 3) := dk_182 0 253 (dk_at dksX5_both_1 0 rfl rfl)
theorem dX5_both_26 : decode cX5_both 26 = .ok (.invokespecial 250, 3) := dk_183 0 250 (dk_at dksX5_both_1 3 rfl rfl)
theorem dX5_both_29 : decode cX5_both 29 = .ok (.astore_n 1, 1) := dk_76 (dk_at dksX5_both_1 6 rfl rfl)
theorem dX5_both_30 : decode cX5_both 30 = .ok (.goto (-25), 3) := dk_167 255 231 (dk_at dksX5_both_1 7 rfl rfl)
theorem dX5_both_33 : decode cX5_both 33 = .ok (.aload_n 1, 1) := dk_43 (dk_at dksX5_both_1 10 rfl rfl)
theorem dX5_both_34 : decode cX5_both 34 = .ok (.areturn, 1) := dk_176 (dk_at dksX5_both_1 11 rfl rfl)
abbrev cX5_one : ByteArray := prog_13_method_31_code
def yX5_one : MethodName := ⟨RX5, "one", "()LTubBites$Part;"⟩
def dkwX5_one_4 : List UInt8 := [182, 1, 12, 183, 0, 250, 176]
abbrev dktX5_one_4 : List UInt8 := dkwX5_one_4 ++ []
def dkwX5_one_3 : List UInt8 := [43, 176, 42, 42, 180, 0, 29, 182, 0, 32, 61, 42, 182, 0, 93, 187, 0, 248, 89, 28, 43, 42]
abbrev dktX5_one_3 : List UInt8 := dkwX5_one_3 ++ dktX5_one_4
def dkwX5_one_2 : List UInt8 := [182, 1, 15, 154, 0, 23, 42, 16, 62, 182, 1, 15, 154, 0, 14, 42, 16, 61, 182, 1, 15, 154, 0, 5]
abbrev dktX5_one_2 : List UInt8 := dkwX5_one_2 ++ dktX5_one_3
def dkwX5_one_1 : List UInt8 := [183, 1, 9, 76, 42, 89, 180, 0, 237, 4, 100, 181, 0, 237, 43, 176, 42, 182, 1, 12, 76, 42, 16, 60]
abbrev dktX5_one_1 : List UInt8 := dkwX5_one_1 ++ dktX5_one_2
def dkwX5_one_0 : List UInt8 := [42, 19, 1, 2, 182, 0, 72, 153, 0, 31, 42, 182, 1, 4, 187, 1, 7, 89, 42, 182, 0, 253]
abbrev dktX5_one_0 : List UInt8 := dkwX5_one_0 ++ dktX5_one_1
theorem dksX5_one_0 : cX5_one.data.toList.drop 0 = dktX5_one_0 := by decide +kernel
theorem dksX5_one_1 : cX5_one.data.toList.drop 22 = dktX5_one_1 := dk_seg dksX5_one_0 22 rfl rfl
theorem dksX5_one_2 : cX5_one.data.toList.drop 46 = dktX5_one_2 := dk_seg dksX5_one_1 24 rfl rfl
theorem dksX5_one_3 : cX5_one.data.toList.drop 70 = dktX5_one_3 := dk_seg dksX5_one_2 24 rfl rfl
theorem dksX5_one_4 : cX5_one.data.toList.drop 92 = dktX5_one_4 := dk_seg dksX5_one_3 22 rfl rfl
theorem dX5_one_0 : decode cX5_one 0 = .ok (.aload_n 0, 1) := dk_42 (dk_at dksX5_one_0 0 rfl rfl)
theorem dX5_one_1 : decode cX5_one 1 = .ok (.ldc_w 258, 3) := dk_19 1 2 (dk_at dksX5_one_0 1 rfl rfl)
theorem dX5_one_4 : decode cX5_one 4 = .ok (.invokevirtual 72, 3) := dk_182 0 72 (dk_at dksX5_one_0 4 rfl rfl)
theorem dX5_one_7 : decode cX5_one 7 = .ok (.ifCond .eq 31, 3) := dk_153 0 31 (dk_at dksX5_one_0 7 rfl rfl)
theorem dX5_one_10 : decode cX5_one 10 = .ok (.aload_n 0, 1) := dk_42 (dk_at dksX5_one_0 10 rfl rfl)
theorem dX5_one_11 : decode cX5_one 11 = .ok (.invokevirtual 260, 3) := dk_182 1 4 (dk_at dksX5_one_0 11 rfl rfl)
theorem dX5_one_14 : decode cX5_one 14 = .ok (.new 263, 3) := dk_187 1 7 (dk_at dksX5_one_0 14 rfl rfl)
theorem dX5_one_17 : decode cX5_one 17 = .ok (.dup, 1) := dk_89 (dk_at dksX5_one_0 17 rfl rfl)
theorem dX5_one_18 : decode cX5_one 18 = .ok (.aload_n 0, 1) := dk_42 (dk_at dksX5_one_0 18 rfl rfl)
theorem dX5_one_19 : decode cX5_one 19 = .ok (.invokevirtual 253, 3) := dk_182 0 253 (dk_at dksX5_one_0 19 rfl rfl)
theorem dX5_one_22 : decode cX5_one 22 = .ok (.invokespecial 265, 3) := dk_183 1 9 (dk_at dksX5_one_1 0 rfl rfl)
theorem dX5_one_25 : decode cX5_one 25 = .ok (.astore_n 1, 1) := dk_76 (dk_at dksX5_one_1 3 rfl rfl)
theorem dX5_one_26 : decode cX5_one 26 = .ok (.aload_n 0, 1) := dk_42 (dk_at dksX5_one_1 4 rfl rfl)
theorem dX5_one_27 : decode cX5_one 27 = .ok (.dup, 1) := dk_89 (dk_at dksX5_one_1 5 rfl rfl)
theorem dX5_one_28 : decode cX5_one 28 = .ok (.getfield 237, 3) := dk_180 0 237 (dk_at dksX5_one_1 6 rfl rfl)
theorem dX5_one_31 : decode cX5_one 31 = .ok (.iconst 1, 1) := dk_4 (dk_at dksX5_one_1 9 rfl rfl)
theorem dX5_one_32 : decode cX5_one 32 = .ok (.isub, 1) := dk_100 (dk_at dksX5_one_1 10 rfl rfl)
theorem dX5_one_33 : decode cX5_one 33 = .ok (.putfield 237, 3) := dk_181 0 237 (dk_at dksX5_one_1 11 rfl rfl)
theorem dX5_one_36 : decode cX5_one 36 = .ok (.aload_n 1, 1) := dk_43 (dk_at dksX5_one_1 14 rfl rfl)
theorem dX5_one_37 : decode cX5_one 37 = .ok (.areturn, 1) := dk_176 (dk_at dksX5_one_1 15 rfl rfl)
theorem dX5_one_38 : decode cX5_one 38 = .ok (.aload_n 0, 1) := dk_42 (dk_at dksX5_one_1 16 rfl rfl)
theorem dX5_one_39 : decode cX5_one 39 = .ok (.invokevirtual 268, 3) := dk_182 1 12 (dk_at dksX5_one_1 17 rfl rfl)
theorem dX5_one_42 : decode cX5_one 42 = .ok (.astore_n 1, 1) := dk_76 (dk_at dksX5_one_1 20 rfl rfl)
theorem dX5_one_43 : decode cX5_one 43 = .ok (.aload_n 0, 1) := dk_42 (dk_at dksX5_one_1 21 rfl rfl)
theorem dX5_one_44 : decode cX5_one 44 = .ok (.bipush 60, 2) := dk_16 60 (dk_at dksX5_one_1 22 rfl rfl)
theorem dX5_one_46 : decode cX5_one 46 = .ok (.invokevirtual 271, 3) := dk_182 1 15 (dk_at dksX5_one_2 0 rfl rfl)
theorem dX5_one_49 : decode cX5_one 49 = .ok (.ifCond .ne 23, 3) := dk_154 0 23 (dk_at dksX5_one_2 3 rfl rfl)
theorem dX5_one_52 : decode cX5_one 52 = .ok (.aload_n 0, 1) := dk_42 (dk_at dksX5_one_2 6 rfl rfl)
theorem dX5_one_53 : decode cX5_one 53 = .ok (.bipush 62, 2) := dk_16 62 (dk_at dksX5_one_2 7 rfl rfl)
theorem dX5_one_55 : decode cX5_one 55 = .ok (.invokevirtual 271, 3) := dk_182 1 15 (dk_at dksX5_one_2 9 rfl rfl)
theorem dX5_one_58 : decode cX5_one 58 = .ok (.ifCond .ne 14, 3) := dk_154 0 14 (dk_at dksX5_one_2 12 rfl rfl)
theorem dX5_one_61 : decode cX5_one 61 = .ok (.aload_n 0, 1) := dk_42 (dk_at dksX5_one_2 15 rfl rfl)
theorem dX5_one_62 : decode cX5_one 62 = .ok (.bipush 61, 2) := dk_16 61 (dk_at dksX5_one_2 16 rfl rfl)
theorem dX5_one_64 : decode cX5_one 64 = .ok (.invokevirtual 271, 3) := dk_182 1 15 (dk_at dksX5_one_2 18 rfl rfl)
theorem dX5_one_67 : decode cX5_one 67 = .ok (.ifCond .ne 5, 3) := dk_154 0 5 (dk_at dksX5_one_2 21 rfl rfl)
theorem dX5_one_70 : decode cX5_one 70 = .ok (.aload_n 1, 1) := dk_43 (dk_at dksX5_one_3 0 rfl rfl)
theorem dX5_one_71 : decode cX5_one 71 = .ok (.areturn, 1) := dk_176 (dk_at dksX5_one_3 1 rfl rfl)
theorem dX5_one_72 : decode cX5_one 72 = .ok (.aload_n 0, 1) := dk_42 (dk_at dksX5_one_3 2 rfl rfl)
theorem dX5_one_73 : decode cX5_one 73 = .ok (.aload_n 0, 1) := dk_42 (dk_at dksX5_one_3 3 rfl rfl)
theorem dX5_one_74 : decode cX5_one 74 = .ok (.getfield 29, 3) := dk_180 0 29 (dk_at dksX5_one_3 4 rfl rfl)
theorem dX5_one_77 : decode cX5_one 77 = .ok (.invokevirtual 32, 3) := dk_182 0 32 (dk_at dksX5_one_3 7 rfl rfl)
theorem dX5_one_80 : decode cX5_one 80 = .ok (.istore_n 2, 1) := dk_61 (dk_at dksX5_one_3 10 rfl rfl)
theorem dX5_one_81 : decode cX5_one 81 = .ok (.aload_n 0, 1) := dk_42 (dk_at dksX5_one_3 11 rfl rfl)
theorem dX5_one_82 : decode cX5_one 82 = .ok (.invokevirtual 93, 3) := dk_182 0 93 (dk_at dksX5_one_3 12 rfl rfl)
theorem dX5_one_85 : decode cX5_one 85 = .ok (.new 248, 3) := dk_187 0 248 (dk_at dksX5_one_3 15 rfl rfl)
theorem dX5_one_88 : decode cX5_one 88 = .ok (.dup, 1) := dk_89 (dk_at dksX5_one_3 18 rfl rfl)
theorem dX5_one_89 : decode cX5_one 89 = .ok (.iload_n 2, 1) := dk_28 (dk_at dksX5_one_3 19 rfl rfl)
theorem dX5_one_90 : decode cX5_one 90 = .ok (.aload_n 1, 1) := dk_43 (dk_at dksX5_one_3 20 rfl rfl)
theorem dX5_one_91 : decode cX5_one 91 = .ok (.aload_n 0, 1) := dk_42 (dk_at dksX5_one_3 21 rfl rfl)
theorem dX5_one_92 : decode cX5_one 92 = .ok (.invokevirtual 268, 3) := dk_182 1 12 (dk_at dksX5_one_4 0 rfl rfl)
theorem dX5_one_95 : decode cX5_one 95 = .ok (.invokespecial 250, 3) := dk_183 0 250 (dk_at dksX5_one_4 3 rfl rfl)
theorem dX5_one_98 : decode cX5_one 98 = .ok (.areturn, 1) := dk_176 (dk_at dksX5_one_4 6 rfl rfl)
abbrev cX5_open : ByteArray := prog_13_method_30_code
def yX5_open : MethodName := ⟨RX5, "open", "()V"⟩
def dkwX5_open_1 : List UInt8 := [42, 182, 0, 93, 177]
abbrev dktX5_open_1 : List UInt8 := dkwX5_open_1 ++ []
def dkwX5_open_0 : List UInt8 := [42, 180, 0, 237, 16, 7, 160, 0, 8, 42, 182, 0, 89, 191, 42, 89, 180, 0, 237, 4, 96, 181, 0, 237]
abbrev dktX5_open_0 : List UInt8 := dkwX5_open_0 ++ dktX5_open_1
theorem dksX5_open_0 : cX5_open.data.toList.drop 0 = dktX5_open_0 := by decide +kernel
theorem dksX5_open_1 : cX5_open.data.toList.drop 24 = dktX5_open_1 := dk_seg dksX5_open_0 24 rfl rfl
theorem dX5_open_0 : decode cX5_open 0 = .ok (.aload_n 0, 1) := dk_42 (dk_at dksX5_open_0 0 rfl rfl)
theorem dX5_open_1 : decode cX5_open 1 = .ok (.getfield 237, 3) := dk_180 0 237 (dk_at dksX5_open_0 1 rfl rfl)
theorem dX5_open_4 : decode cX5_open 4 = .ok (.bipush 7, 2) := dk_16 7 (dk_at dksX5_open_0 4 rfl rfl)
theorem dX5_open_6 : decode cX5_open 6 = .ok (.if_icmp .ne 8, 3) := dk_160 0 8 (dk_at dksX5_open_0 6 rfl rfl)
theorem dX5_open_9 : decode cX5_open 9 = .ok (.aload_n 0, 1) := dk_42 (dk_at dksX5_open_0 9 rfl rfl)
theorem dX5_open_10 : decode cX5_open 10 = .ok (.invokevirtual 89, 3) := dk_182 0 89 (dk_at dksX5_open_0 10 rfl rfl)
theorem dX5_open_13 : decode cX5_open 13 = .ok (.athrow, 1) := dk_191 (dk_at dksX5_open_0 13 rfl rfl)
theorem dX5_open_14 : decode cX5_open 14 = .ok (.aload_n 0, 1) := dk_42 (dk_at dksX5_open_0 14 rfl rfl)
theorem dX5_open_15 : decode cX5_open 15 = .ok (.dup, 1) := dk_89 (dk_at dksX5_open_0 15 rfl rfl)
theorem dX5_open_16 : decode cX5_open 16 = .ok (.getfield 237, 3) := dk_180 0 237 (dk_at dksX5_open_0 16 rfl rfl)
theorem dX5_open_19 : decode cX5_open 19 = .ok (.iconst 1, 1) := dk_4 (dk_at dksX5_open_0 19 rfl rfl)
theorem dX5_open_20 : decode cX5_open 20 = .ok (.iadd, 1) := dk_96 (dk_at dksX5_open_0 20 rfl rfl)
theorem dX5_open_21 : decode cX5_open 21 = .ok (.putfield 237, 3) := dk_181 0 237 (dk_at dksX5_open_0 21 rfl rfl)
theorem dX5_open_24 : decode cX5_open 24 = .ok (.aload_n 0, 1) := dk_42 (dk_at dksX5_open_1 0 rfl rfl)
theorem dX5_open_25 : decode cX5_open 25 = .ok (.invokevirtual 93, 3) := dk_182 0 93 (dk_at dksX5_open_1 1 rfl rfl)
theorem dX5_open_28 : decode cX5_open 28 = .ok (.return_, 1) := dk_177 (dk_at dksX5_open_1 4 rfl rfl)
abbrev cX5_sum : ByteArray := prog_13_method_32_code
def yX5_sum : MethodName := ⟨RX5, "sum", "()LTubBites$Part;"⟩
def dkwX5_sum_2 : List UInt8 := [183, 0, 250, 76, 167, 255, 211, 43, 176]
abbrev dktX5_sum_2 : List UInt8 := dkwX5_sum_2 ++ []
def dkwX5_sum_1 : List UInt8 := [42, 180, 0, 29, 182, 0, 32, 61, 42, 182, 0, 93, 187, 0, 248, 89, 28, 43, 42, 182, 1, 18]
abbrev dktX5_sum_1 : List UInt8 := dkwX5_sum_1 ++ dktX5_sum_2
def dkwX5_sum_0 : List UInt8 := [42, 182, 1, 18, 76, 42, 16, 43, 182, 1, 15, 154, 0, 12, 42, 16, 45, 182, 1, 15, 153, 0, 33, 42]
abbrev dktX5_sum_0 : List UInt8 := dkwX5_sum_0 ++ dktX5_sum_1
theorem dksX5_sum_0 : cX5_sum.data.toList.drop 0 = dktX5_sum_0 := by decide +kernel
theorem dksX5_sum_1 : cX5_sum.data.toList.drop 24 = dktX5_sum_1 := dk_seg dksX5_sum_0 24 rfl rfl
theorem dksX5_sum_2 : cX5_sum.data.toList.drop 46 = dktX5_sum_2 := dk_seg dksX5_sum_1 22 rfl rfl
theorem dX5_sum_0 : decode cX5_sum 0 = .ok (.aload_n 0, 1) := dk_42 (dk_at dksX5_sum_0 0 rfl rfl)
theorem dX5_sum_1 : decode cX5_sum 1 = .ok (.invokevirtual 274, 3) := dk_182 1 18 (dk_at dksX5_sum_0 1 rfl rfl)
theorem dX5_sum_4 : decode cX5_sum 4 = .ok (.astore_n 1, 1) := dk_76 (dk_at dksX5_sum_0 4 rfl rfl)
theorem dX5_sum_5 : decode cX5_sum 5 = .ok (.aload_n 0, 1) := dk_42 (dk_at dksX5_sum_0 5 rfl rfl)
theorem dX5_sum_6 : decode cX5_sum 6 = .ok (.bipush 43, 2) := dk_16 43 (dk_at dksX5_sum_0 6 rfl rfl)
theorem dX5_sum_8 : decode cX5_sum 8 = .ok (.invokevirtual 271, 3) := dk_182 1 15 (dk_at dksX5_sum_0 8 rfl rfl)
theorem dX5_sum_11 : decode cX5_sum 11 = .ok (.ifCond .ne 12, 3) := dk_154 0 12 (dk_at dksX5_sum_0 11 rfl rfl)
theorem dX5_sum_14 : decode cX5_sum 14 = .ok (.aload_n 0, 1) := dk_42 (dk_at dksX5_sum_0 14 rfl rfl)
theorem dX5_sum_15 : decode cX5_sum 15 = .ok (.bipush 45, 2) := dk_16 45 (dk_at dksX5_sum_0 15 rfl rfl)
theorem dX5_sum_17 : decode cX5_sum 17 = .ok (.invokevirtual 271, 3) := dk_182 1 15 (dk_at dksX5_sum_0 17 rfl rfl)
theorem dX5_sum_20 : decode cX5_sum 20 = .ok (.ifCond .eq 33, 3) := dk_153 0 33 (dk_at dksX5_sum_0 20 rfl rfl)
theorem dX5_sum_23 : decode cX5_sum 23 = .ok (.aload_n 0, 1) := dk_42 (dk_at dksX5_sum_0 23 rfl rfl)
theorem dX5_sum_24 : decode cX5_sum 24 = .ok (.aload_n 0, 1) := dk_42 (dk_at dksX5_sum_1 0 rfl rfl)
theorem dX5_sum_25 : decode cX5_sum 25 = .ok (.getfield 29, 3) := dk_180 0 29 (dk_at dksX5_sum_1 1 rfl rfl)
theorem dX5_sum_28 : decode cX5_sum 28 = .ok (.invokevirtual 32, 3) := dk_182 0 32 (dk_at dksX5_sum_1 4 rfl rfl)
theorem dX5_sum_31 : decode cX5_sum 31 = .ok (.istore_n 2, 1) := dk_61 (dk_at dksX5_sum_1 7 rfl rfl)
theorem dX5_sum_32 : decode cX5_sum 32 = .ok (.aload_n 0, 1) := dk_42 (dk_at dksX5_sum_1 8 rfl rfl)
theorem dX5_sum_33 : decode cX5_sum 33 = .ok (.invokevirtual 93, 3) := dk_182 0 93 (dk_at dksX5_sum_1 9 rfl rfl)
theorem dX5_sum_36 : decode cX5_sum 36 = .ok (.new 248, 3) := dk_187 0 248 (dk_at dksX5_sum_1 12 rfl rfl)
theorem dX5_sum_39 : decode cX5_sum 39 = .ok (.dup, 1) := dk_89 (dk_at dksX5_sum_1 15 rfl rfl)
theorem dX5_sum_40 : decode cX5_sum 40 = .ok (.iload_n 2, 1) := dk_28 (dk_at dksX5_sum_1 16 rfl rfl)
theorem dX5_sum_41 : decode cX5_sum 41 = .ok (.aload_n 1, 1) := dk_43 (dk_at dksX5_sum_1 17 rfl rfl)
theorem dX5_sum_42 : decode cX5_sum 42 = .ok (.aload_n 0, 1) := dk_42 (dk_at dksX5_sum_1 18 rfl rfl)
theorem dX5_sum_43 : decode cX5_sum 43 = .ok (.invokevirtual 274, 3) := dk_182 1 18 (dk_at dksX5_sum_1 19 rfl rfl)
theorem dX5_sum_46 : decode cX5_sum 46 = .ok (.invokespecial 250, 3) := dk_183 0 250 (dk_at dksX5_sum_2 0 rfl rfl)
theorem dX5_sum_49 : decode cX5_sum 49 = .ok (.astore_n 1, 1) := dk_76 (dk_at dksX5_sum_2 3 rfl rfl)
theorem dX5_sum_50 : decode cX5_sum 50 = .ok (.goto (-45), 3) := dk_167 255 211 (dk_at dksX5_sum_2 4 rfl rfl)
theorem dX5_sum_53 : decode cX5_sum 53 = .ok (.aload_n 1, 1) := dk_43 (dk_at dksX5_sum_2 7 rfl rfl)
theorem dX5_sum_54 : decode cX5_sum 54 = .ok (.areturn, 1) := dk_176 (dk_at dksX5_sum_2 8 rfl rfl)
abbrev cX5_term : ByteArray := prog_13_method_33_code
def yX5_term : MethodName := ⟨RX5, "term", "()LTubBites$Part;"⟩
def dkwX5_term_2 : List UInt8 := [89, 28, 43, 42, 182, 1, 21, 183, 0, 250, 76, 167, 255, 202, 43, 176]
abbrev dktX5_term_2 : List UInt8 := dkwX5_term_2 ++ []
def dkwX5_term_1 : List UInt8 := [16, 37, 182, 1, 15, 153, 0, 33, 42, 42, 180, 0, 29, 182, 0, 32, 61, 42, 182, 0, 93, 187, 0, 248]
abbrev dktX5_term_1 : List UInt8 := dkwX5_term_1 ++ dktX5_term_2
def dkwX5_term_0 : List UInt8 := [42, 182, 1, 21, 76, 42, 16, 42, 182, 1, 15, 154, 0, 21, 42, 16, 47, 182, 1, 15, 154, 0, 12, 42]
abbrev dktX5_term_0 : List UInt8 := dkwX5_term_0 ++ dktX5_term_1
theorem dksX5_term_0 : cX5_term.data.toList.drop 0 = dktX5_term_0 := by decide +kernel
theorem dksX5_term_1 : cX5_term.data.toList.drop 24 = dktX5_term_1 := dk_seg dksX5_term_0 24 rfl rfl
theorem dksX5_term_2 : cX5_term.data.toList.drop 48 = dktX5_term_2 := dk_seg dksX5_term_1 24 rfl rfl
theorem dX5_term_0 : decode cX5_term 0 = .ok (.aload_n 0, 1) := dk_42 (dk_at dksX5_term_0 0 rfl rfl)
theorem dX5_term_1 : decode cX5_term 1 = .ok (.invokevirtual 277, 3) := dk_182 1 21 (dk_at dksX5_term_0 1 rfl rfl)
theorem dX5_term_4 : decode cX5_term 4 = .ok (.astore_n 1, 1) := dk_76 (dk_at dksX5_term_0 4 rfl rfl)
theorem dX5_term_5 : decode cX5_term 5 = .ok (.aload_n 0, 1) := dk_42 (dk_at dksX5_term_0 5 rfl rfl)
theorem dX5_term_6 : decode cX5_term 6 = .ok (.bipush 42, 2) := dk_16 42 (dk_at dksX5_term_0 6 rfl rfl)
theorem dX5_term_8 : decode cX5_term 8 = .ok (.invokevirtual 271, 3) := dk_182 1 15 (dk_at dksX5_term_0 8 rfl rfl)
theorem dX5_term_11 : decode cX5_term 11 = .ok (.ifCond .ne 21, 3) := dk_154 0 21 (dk_at dksX5_term_0 11 rfl rfl)
theorem dX5_term_14 : decode cX5_term 14 = .ok (.aload_n 0, 1) := dk_42 (dk_at dksX5_term_0 14 rfl rfl)
theorem dX5_term_15 : decode cX5_term 15 = .ok (.bipush 47, 2) := dk_16 47 (dk_at dksX5_term_0 15 rfl rfl)
theorem dX5_term_17 : decode cX5_term 17 = .ok (.invokevirtual 271, 3) := dk_182 1 15 (dk_at dksX5_term_0 17 rfl rfl)
theorem dX5_term_20 : decode cX5_term 20 = .ok (.ifCond .ne 12, 3) := dk_154 0 12 (dk_at dksX5_term_0 20 rfl rfl)
theorem dX5_term_23 : decode cX5_term 23 = .ok (.aload_n 0, 1) := dk_42 (dk_at dksX5_term_0 23 rfl rfl)
theorem dX5_term_24 : decode cX5_term 24 = .ok (.bipush 37, 2) := dk_16 37 (dk_at dksX5_term_1 0 rfl rfl)
theorem dX5_term_26 : decode cX5_term 26 = .ok (.invokevirtual 271, 3) := dk_182 1 15 (dk_at dksX5_term_1 2 rfl rfl)
theorem dX5_term_29 : decode cX5_term 29 = .ok (.ifCond .eq 33, 3) := dk_153 0 33 (dk_at dksX5_term_1 5 rfl rfl)
theorem dX5_term_32 : decode cX5_term 32 = .ok (.aload_n 0, 1) := dk_42 (dk_at dksX5_term_1 8 rfl rfl)
theorem dX5_term_33 : decode cX5_term 33 = .ok (.aload_n 0, 1) := dk_42 (dk_at dksX5_term_1 9 rfl rfl)
theorem dX5_term_34 : decode cX5_term 34 = .ok (.getfield 29, 3) := dk_180 0 29 (dk_at dksX5_term_1 10 rfl rfl)
theorem dX5_term_37 : decode cX5_term 37 = .ok (.invokevirtual 32, 3) := dk_182 0 32 (dk_at dksX5_term_1 13 rfl rfl)
theorem dX5_term_40 : decode cX5_term 40 = .ok (.istore_n 2, 1) := dk_61 (dk_at dksX5_term_1 16 rfl rfl)
theorem dX5_term_41 : decode cX5_term 41 = .ok (.aload_n 0, 1) := dk_42 (dk_at dksX5_term_1 17 rfl rfl)
theorem dX5_term_42 : decode cX5_term 42 = .ok (.invokevirtual 93, 3) := dk_182 0 93 (dk_at dksX5_term_1 18 rfl rfl)
theorem dX5_term_45 : decode cX5_term 45 = .ok (.new 248, 3) := dk_187 0 248 (dk_at dksX5_term_1 21 rfl rfl)
theorem dX5_term_48 : decode cX5_term 48 = .ok (.dup, 1) := dk_89 (dk_at dksX5_term_2 0 rfl rfl)
theorem dX5_term_49 : decode cX5_term 49 = .ok (.iload_n 2, 1) := dk_28 (dk_at dksX5_term_2 1 rfl rfl)
theorem dX5_term_50 : decode cX5_term 50 = .ok (.aload_n 1, 1) := dk_43 (dk_at dksX5_term_2 2 rfl rfl)
theorem dX5_term_51 : decode cX5_term 51 = .ok (.aload_n 0, 1) := dk_42 (dk_at dksX5_term_2 3 rfl rfl)
theorem dX5_term_52 : decode cX5_term 52 = .ok (.invokevirtual 277, 3) := dk_182 1 21 (dk_at dksX5_term_2 4 rfl rfl)
theorem dX5_term_55 : decode cX5_term 55 = .ok (.invokespecial 250, 3) := dk_183 0 250 (dk_at dksX5_term_2 7 rfl rfl)
theorem dX5_term_58 : decode cX5_term 58 = .ok (.astore_n 1, 1) := dk_76 (dk_at dksX5_term_2 10 rfl rfl)
theorem dX5_term_59 : decode cX5_term 59 = .ok (.goto (-54), 3) := dk_167 255 202 (dk_at dksX5_term_2 11 rfl rfl)
theorem dX5_term_62 : decode cX5_term 62 = .ok (.aload_n 1, 1) := dk_43 (dk_at dksX5_term_2 14 rfl rfl)
theorem dX5_term_63 : decode cX5_term 63 = .ok (.areturn, 1) := dk_176 (dk_at dksX5_term_2 15 rfl rfl)
abbrev cX5_unit : ByteArray := prog_13_method_34_code
def yX5_unit : MethodName := ⟨RX5, "unit", "()LTubBites$Part;"⟩
def dkwX5_unit_6 : List UInt8 := [182, 0, 93, 45, 176]
abbrev dktX5_unit_6 : List UInt8 := dkwX5_unit_6 ++ []
def dkwX5_unit_5 : List UInt8 := [187, 1, 30, 89, 42, 180, 0, 59, 183, 1, 32, 167, 0, 11, 187, 1, 35, 89, 28, 183, 1, 37, 78, 42]
abbrev dktX5_unit_5 : List UInt8 := dkwX5_unit_5 ++ dktX5_unit_6
def dkwX5_unit_4 : List UInt8 := [180, 0, 237, 4, 100, 181, 0, 237, 42, 42, 16, 41, 182, 1, 15, 182, 0, 96, 45, 176, 28, 156, 0, 17]
abbrev dktX5_unit_4 : List UInt8 := dkwX5_unit_4 ++ dktX5_unit_5
def dkwX5_unit_3 : List UInt8 := [89, 180, 0, 234, 4, 96, 181, 0, 234, 27, 153, 0, 34, 42, 182, 1, 4, 42, 182, 0, 240, 78, 42, 89]
abbrev dktX5_unit_3 : List UInt8 := dkwX5_unit_3 ++ dktX5_unit_4
def dkwX5_unit_2 : List UInt8 := [16, 30, 160, 0, 8, 42, 182, 0, 89, 191, 42, 180, 0, 12, 89, 180, 1, 27, 4, 96, 181, 1, 27, 42]
abbrev dktX5_unit_2 : List UInt8 := dkwX5_unit_2 ++ dktX5_unit_3
def dkwX5_unit_1 : List UInt8 := [180, 0, 36, 5, 160, 0, 24, 42, 180, 0, 12, 180, 1, 27, 16, 90, 159, 0, 12, 42, 180, 0, 234]
abbrev dktX5_unit_1 : List UInt8 := dkwX5_unit_1 ++ dktX5_unit_2
def dkwX5_unit_0 : List UInt8 := [42, 16, 40, 182, 1, 15, 60, 42, 178, 1, 24, 182, 0, 80, 61, 27, 154, 0, 15, 28, 156, 0, 11, 42]
abbrev dktX5_unit_0 : List UInt8 := dkwX5_unit_0 ++ dktX5_unit_1
theorem dksX5_unit_0 : cX5_unit.data.toList.drop 0 = dktX5_unit_0 := by decide +kernel
theorem dksX5_unit_1 : cX5_unit.data.toList.drop 24 = dktX5_unit_1 := dk_seg dksX5_unit_0 24 rfl rfl
theorem dksX5_unit_2 : cX5_unit.data.toList.drop 47 = dktX5_unit_2 := dk_seg dksX5_unit_1 23 rfl rfl
theorem dksX5_unit_3 : cX5_unit.data.toList.drop 71 = dktX5_unit_3 := dk_seg dksX5_unit_2 24 rfl rfl
theorem dksX5_unit_4 : cX5_unit.data.toList.drop 95 = dktX5_unit_4 := dk_seg dksX5_unit_3 24 rfl rfl
theorem dksX5_unit_5 : cX5_unit.data.toList.drop 119 = dktX5_unit_5 := dk_seg dksX5_unit_4 24 rfl rfl
theorem dksX5_unit_6 : cX5_unit.data.toList.drop 143 = dktX5_unit_6 := dk_seg dksX5_unit_5 24 rfl rfl
theorem dX5_unit_0 : decode cX5_unit 0 = .ok (.aload_n 0, 1) := dk_42 (dk_at dksX5_unit_0 0 rfl rfl)
theorem dX5_unit_1 : decode cX5_unit 1 = .ok (.bipush 40, 2) := dk_16 40 (dk_at dksX5_unit_0 1 rfl rfl)
theorem dX5_unit_3 : decode cX5_unit 3 = .ok (.invokevirtual 271, 3) := dk_182 1 15 (dk_at dksX5_unit_0 3 rfl rfl)
theorem dX5_unit_6 : decode cX5_unit 6 = .ok (.istore_n 1, 1) := dk_60 (dk_at dksX5_unit_0 6 rfl rfl)
theorem dX5_unit_7 : decode cX5_unit 7 = .ok (.aload_n 0, 1) := dk_42 (dk_at dksX5_unit_0 7 rfl rfl)
theorem dX5_unit_8 : decode cX5_unit 8 = .ok (.getstatic 280, 3) := dk_178 1 24 (dk_at dksX5_unit_0 8 rfl rfl)
theorem dX5_unit_11 : decode cX5_unit 11 = .ok (.invokevirtual 80, 3) := dk_182 0 80 (dk_at dksX5_unit_0 11 rfl rfl)
theorem dX5_unit_14 : decode cX5_unit 14 = .ok (.istore_n 2, 1) := dk_61 (dk_at dksX5_unit_0 14 rfl rfl)
theorem dX5_unit_15 : decode cX5_unit 15 = .ok (.iload_n 1, 1) := dk_27 (dk_at dksX5_unit_0 15 rfl rfl)
theorem dX5_unit_16 : decode cX5_unit 16 = .ok (.ifCond .ne 15, 3) := dk_154 0 15 (dk_at dksX5_unit_0 16 rfl rfl)
theorem dX5_unit_19 : decode cX5_unit 19 = .ok (.iload_n 2, 1) := dk_28 (dk_at dksX5_unit_0 19 rfl rfl)
theorem dX5_unit_20 : decode cX5_unit 20 = .ok (.ifCond .ge 11, 3) := dk_156 0 11 (dk_at dksX5_unit_0 20 rfl rfl)
theorem dX5_unit_23 : decode cX5_unit 23 = .ok (.aload_n 0, 1) := dk_42 (dk_at dksX5_unit_0 23 rfl rfl)
theorem dX5_unit_24 : decode cX5_unit 24 = .ok (.getfield 36, 3) := dk_180 0 36 (dk_at dksX5_unit_1 0 rfl rfl)
theorem dX5_unit_27 : decode cX5_unit 27 = .ok (.iconst 2, 1) := dk_5 (dk_at dksX5_unit_1 3 rfl rfl)
theorem dX5_unit_28 : decode cX5_unit 28 = .ok (.if_icmp .ne 24, 3) := dk_160 0 24 (dk_at dksX5_unit_1 4 rfl rfl)
theorem dX5_unit_31 : decode cX5_unit 31 = .ok (.aload_n 0, 1) := dk_42 (dk_at dksX5_unit_1 7 rfl rfl)
theorem dX5_unit_32 : decode cX5_unit 32 = .ok (.getfield 12, 3) := dk_180 0 12 (dk_at dksX5_unit_1 8 rfl rfl)
theorem dX5_unit_35 : decode cX5_unit 35 = .ok (.getfield 283, 3) := dk_180 1 27 (dk_at dksX5_unit_1 11 rfl rfl)
theorem dX5_unit_38 : decode cX5_unit 38 = .ok (.bipush 90, 2) := dk_16 90 (dk_at dksX5_unit_1 14 rfl rfl)
theorem dX5_unit_40 : decode cX5_unit 40 = .ok (.if_icmp .eq 12, 3) := dk_159 0 12 (dk_at dksX5_unit_1 16 rfl rfl)
theorem dX5_unit_43 : decode cX5_unit 43 = .ok (.aload_n 0, 1) := dk_42 (dk_at dksX5_unit_1 19 rfl rfl)
theorem dX5_unit_44 : decode cX5_unit 44 = .ok (.getfield 234, 3) := dk_180 0 234 (dk_at dksX5_unit_1 20 rfl rfl)
theorem dX5_unit_47 : decode cX5_unit 47 = .ok (.bipush 30, 2) := dk_16 30 (dk_at dksX5_unit_2 0 rfl rfl)
theorem dX5_unit_49 : decode cX5_unit 49 = .ok (.if_icmp .ne 8, 3) := dk_160 0 8 (dk_at dksX5_unit_2 2 rfl rfl)
theorem dX5_unit_52 : decode cX5_unit 52 = .ok (.aload_n 0, 1) := dk_42 (dk_at dksX5_unit_2 5 rfl rfl)
theorem dX5_unit_53 : decode cX5_unit 53 = .ok (.invokevirtual 89, 3) := dk_182 0 89 (dk_at dksX5_unit_2 6 rfl rfl)
theorem dX5_unit_56 : decode cX5_unit 56 = .ok (.athrow, 1) := dk_191 (dk_at dksX5_unit_2 9 rfl rfl)
theorem dX5_unit_57 : decode cX5_unit 57 = .ok (.aload_n 0, 1) := dk_42 (dk_at dksX5_unit_2 10 rfl rfl)
theorem dX5_unit_58 : decode cX5_unit 58 = .ok (.getfield 12, 3) := dk_180 0 12 (dk_at dksX5_unit_2 11 rfl rfl)
theorem dX5_unit_61 : decode cX5_unit 61 = .ok (.dup, 1) := dk_89 (dk_at dksX5_unit_2 14 rfl rfl)
theorem dX5_unit_62 : decode cX5_unit 62 = .ok (.getfield 283, 3) := dk_180 1 27 (dk_at dksX5_unit_2 15 rfl rfl)
theorem dX5_unit_65 : decode cX5_unit 65 = .ok (.iconst 1, 1) := dk_4 (dk_at dksX5_unit_2 18 rfl rfl)
theorem dX5_unit_66 : decode cX5_unit 66 = .ok (.iadd, 1) := dk_96 (dk_at dksX5_unit_2 19 rfl rfl)
theorem dX5_unit_67 : decode cX5_unit 67 = .ok (.putfield 283, 3) := dk_181 1 27 (dk_at dksX5_unit_2 20 rfl rfl)
theorem dX5_unit_70 : decode cX5_unit 70 = .ok (.aload_n 0, 1) := dk_42 (dk_at dksX5_unit_2 23 rfl rfl)
theorem dX5_unit_71 : decode cX5_unit 71 = .ok (.dup, 1) := dk_89 (dk_at dksX5_unit_3 0 rfl rfl)
theorem dX5_unit_72 : decode cX5_unit 72 = .ok (.getfield 234, 3) := dk_180 0 234 (dk_at dksX5_unit_3 1 rfl rfl)
theorem dX5_unit_75 : decode cX5_unit 75 = .ok (.iconst 1, 1) := dk_4 (dk_at dksX5_unit_3 4 rfl rfl)
theorem dX5_unit_76 : decode cX5_unit 76 = .ok (.iadd, 1) := dk_96 (dk_at dksX5_unit_3 5 rfl rfl)
theorem dX5_unit_77 : decode cX5_unit 77 = .ok (.putfield 234, 3) := dk_181 0 234 (dk_at dksX5_unit_3 6 rfl rfl)
theorem dX5_unit_80 : decode cX5_unit 80 = .ok (.iload_n 1, 1) := dk_27 (dk_at dksX5_unit_3 9 rfl rfl)
theorem dX5_unit_81 : decode cX5_unit 81 = .ok (.ifCond .eq 34, 3) := dk_153 0 34 (dk_at dksX5_unit_3 10 rfl rfl)
theorem dX5_unit_84 : decode cX5_unit 84 = .ok (.aload_n 0, 1) := dk_42 (dk_at dksX5_unit_3 13 rfl rfl)
theorem dX5_unit_85 : decode cX5_unit 85 = .ok (.invokevirtual 260, 3) := dk_182 1 4 (dk_at dksX5_unit_3 14 rfl rfl)
theorem dX5_unit_88 : decode cX5_unit 88 = .ok (.aload_n 0, 1) := dk_42 (dk_at dksX5_unit_3 17 rfl rfl)
theorem dX5_unit_89 : decode cX5_unit 89 = .ok (.invokevirtual 240, 3) := dk_182 0 240 (dk_at dksX5_unit_3 18 rfl rfl)
theorem dX5_unit_92 : decode cX5_unit 92 = .ok (.astore_n 3, 1) := dk_78 (dk_at dksX5_unit_3 21 rfl rfl)
theorem dX5_unit_93 : decode cX5_unit 93 = .ok (.aload_n 0, 1) := dk_42 (dk_at dksX5_unit_3 22 rfl rfl)
theorem dX5_unit_94 : decode cX5_unit 94 = .ok (.dup, 1) := dk_89 (dk_at dksX5_unit_3 23 rfl rfl)
theorem dX5_unit_95 : decode cX5_unit 95 = .ok (.getfield 237, 3) := dk_180 0 237 (dk_at dksX5_unit_4 0 rfl rfl)
theorem dX5_unit_98 : decode cX5_unit 98 = .ok (.iconst 1, 1) := dk_4 (dk_at dksX5_unit_4 3 rfl rfl)
theorem dX5_unit_99 : decode cX5_unit 99 = .ok (.isub, 1) := dk_100 (dk_at dksX5_unit_4 4 rfl rfl)
theorem dX5_unit_100 : decode cX5_unit 100 = .ok (.putfield 237, 3) := dk_181 0 237 (dk_at dksX5_unit_4 5 rfl rfl)
theorem dX5_unit_103 : decode cX5_unit 103 = .ok (.aload_n 0, 1) := dk_42 (dk_at dksX5_unit_4 8 rfl rfl)
theorem dX5_unit_104 : decode cX5_unit 104 = .ok (.aload_n 0, 1) := dk_42 (dk_at dksX5_unit_4 9 rfl rfl)
theorem dX5_unit_105 : decode cX5_unit 105 = .ok (.bipush 41, 2) := dk_16 41 (dk_at dksX5_unit_4 10 rfl rfl)
theorem dX5_unit_107 : decode cX5_unit 107 = .ok (.invokevirtual 271, 3) := dk_182 1 15 (dk_at dksX5_unit_4 12 rfl rfl)
theorem dX5_unit_110 : decode cX5_unit 110 = .ok (.invokevirtual 96, 3) := dk_182 0 96 (dk_at dksX5_unit_4 15 rfl rfl)
theorem dX5_unit_113 : decode cX5_unit 113 = .ok (.aload_n 3, 1) := dk_45 (dk_at dksX5_unit_4 18 rfl rfl)
theorem dX5_unit_114 : decode cX5_unit 114 = .ok (.areturn, 1) := dk_176 (dk_at dksX5_unit_4 19 rfl rfl)
theorem dX5_unit_115 : decode cX5_unit 115 = .ok (.iload_n 2, 1) := dk_28 (dk_at dksX5_unit_4 20 rfl rfl)
theorem dX5_unit_116 : decode cX5_unit 116 = .ok (.ifCond .ge 17, 3) := dk_156 0 17 (dk_at dksX5_unit_4 21 rfl rfl)
theorem dX5_unit_119 : decode cX5_unit 119 = .ok (.new 286, 3) := dk_187 1 30 (dk_at dksX5_unit_5 0 rfl rfl)
theorem dX5_unit_122 : decode cX5_unit 122 = .ok (.dup, 1) := dk_89 (dk_at dksX5_unit_5 3 rfl rfl)
theorem dX5_unit_123 : decode cX5_unit 123 = .ok (.aload_n 0, 1) := dk_42 (dk_at dksX5_unit_5 4 rfl rfl)
theorem dX5_unit_124 : decode cX5_unit 124 = .ok (.getfield 59, 3) := dk_180 0 59 (dk_at dksX5_unit_5 5 rfl rfl)
theorem dX5_unit_127 : decode cX5_unit 127 = .ok (.invokespecial 288, 3) := dk_183 1 32 (dk_at dksX5_unit_5 8 rfl rfl)
theorem dX5_unit_130 : decode cX5_unit 130 = .ok (.goto 11, 3) := dk_167 0 11 (dk_at dksX5_unit_5 11 rfl rfl)
theorem dX5_unit_133 : decode cX5_unit 133 = .ok (.new 291, 3) := dk_187 1 35 (dk_at dksX5_unit_5 14 rfl rfl)
theorem dX5_unit_136 : decode cX5_unit 136 = .ok (.dup, 1) := dk_89 (dk_at dksX5_unit_5 17 rfl rfl)
theorem dX5_unit_137 : decode cX5_unit 137 = .ok (.iload_n 2, 1) := dk_28 (dk_at dksX5_unit_5 18 rfl rfl)
theorem dX5_unit_138 : decode cX5_unit 138 = .ok (.invokespecial 293, 3) := dk_183 1 37 (dk_at dksX5_unit_5 19 rfl rfl)
theorem dX5_unit_141 : decode cX5_unit 141 = .ok (.astore_n 3, 1) := dk_78 (dk_at dksX5_unit_5 22 rfl rfl)
theorem dX5_unit_142 : decode cX5_unit 142 = .ok (.aload_n 0, 1) := dk_42 (dk_at dksX5_unit_5 23 rfl rfl)
theorem dX5_unit_143 : decode cX5_unit 143 = .ok (.invokevirtual 93, 3) := dk_182 0 93 (dk_at dksX5_unit_6 0 rfl rfl)
theorem dX5_unit_146 : decode cX5_unit 146 = .ok (.aload_n 3, 1) := dk_45 (dk_at dksX5_unit_6 3 rfl rfl)
theorem dX5_unit_147 : decode cX5_unit 147 = .ok (.areturn, 1) := dk_176 (dk_at dksX5_unit_6 4 rfl rfl)
abbrev cX5_isSignHere : ByteArray := prog_13_method_11_code
def yX5_isSignHere : MethodName := ⟨RX5, "isSignHere", "(I)Z"⟩
def dkwX5_isSignHere_1 : List UInt8 := [3, 172]
abbrev dktX5_isSignHere_1 : List UInt8 := dkwX5_isSignHere_1 ++ []
def dkwX5_isSignHere_0 : List UInt8 := [42, 180, 0, 36, 6, 160, 0, 19, 42, 42, 180, 0, 29, 182, 0, 32, 27, 160, 0, 7, 4, 167, 0, 4]
abbrev dktX5_isSignHere_0 : List UInt8 := dkwX5_isSignHere_0 ++ dktX5_isSignHere_1
theorem dksX5_isSignHere_0 : cX5_isSignHere.data.toList.drop 0 = dktX5_isSignHere_0 := by decide +kernel
theorem dksX5_isSignHere_1 : cX5_isSignHere.data.toList.drop 24 = dktX5_isSignHere_1 := dk_seg dksX5_isSignHere_0 24 rfl rfl
theorem dX5_isSignHere_0 : decode cX5_isSignHere 0 = .ok (.aload_n 0, 1) := dk_42 (dk_at dksX5_isSignHere_0 0 rfl rfl)
theorem dX5_isSignHere_1 : decode cX5_isSignHere 1 = .ok (.getfield 36, 3) := dk_180 0 36 (dk_at dksX5_isSignHere_0 1 rfl rfl)
theorem dX5_isSignHere_4 : decode cX5_isSignHere 4 = .ok (.iconst 3, 1) := dk_6 (dk_at dksX5_isSignHere_0 4 rfl rfl)
theorem dX5_isSignHere_5 : decode cX5_isSignHere 5 = .ok (.if_icmp .ne 19, 3) := dk_160 0 19 (dk_at dksX5_isSignHere_0 5 rfl rfl)
theorem dX5_isSignHere_8 : decode cX5_isSignHere 8 = .ok (.aload_n 0, 1) := dk_42 (dk_at dksX5_isSignHere_0 8 rfl rfl)
theorem dX5_isSignHere_9 : decode cX5_isSignHere 9 = .ok (.aload_n 0, 1) := dk_42 (dk_at dksX5_isSignHere_0 9 rfl rfl)
theorem dX5_isSignHere_10 : decode cX5_isSignHere 10 = .ok (.getfield 29, 3) := dk_180 0 29 (dk_at dksX5_isSignHere_0 10 rfl rfl)
theorem dX5_isSignHere_13 : decode cX5_isSignHere 13 = .ok (.invokevirtual 32, 3) := dk_182 0 32 (dk_at dksX5_isSignHere_0 13 rfl rfl)
theorem dX5_isSignHere_16 : decode cX5_isSignHere 16 = .ok (.iload_n 1, 1) := dk_27 (dk_at dksX5_isSignHere_0 16 rfl rfl)
theorem dX5_isSignHere_17 : decode cX5_isSignHere 17 = .ok (.if_icmp .ne 7, 3) := dk_160 0 7 (dk_at dksX5_isSignHere_0 17 rfl rfl)
theorem dX5_isSignHere_20 : decode cX5_isSignHere 20 = .ok (.iconst 1, 1) := dk_4 (dk_at dksX5_isSignHere_0 20 rfl rfl)
theorem dX5_isSignHere_21 : decode cX5_isSignHere 21 = .ok (.goto 4, 3) := dk_167 0 4 (dk_at dksX5_isSignHere_0 21 rfl rfl)
theorem dX5_isSignHere_24 : decode cX5_isSignHere 24 = .ok (.iconst 0, 1) := dk_3 (dk_at dksX5_isSignHere_1 0 rfl rfl)
theorem dX5_isSignHere_25 : decode cX5_isSignHere 25 = .ok (.ireturn, 1) := dk_172 (dk_at dksX5_isSignHere_1 1 rfl rfl)
abbrev cX5_apple : ByteArray := prog_13_method_25_code
def yX5_apple : MethodName := ⟨RX5, "apple", "()V"⟩
def dkwX5_apple_9 : List UInt8 := [180, 0, 12, 180, 0, 118, 43, 182, 0, 171, 87, 177]
abbrev dktX5_apple_9 : List UInt8 := dkwX5_apple_9 ++ []
def dkwX5_apple_8 : List UInt8 := [18, 204, 182, 0, 72, 153, 0, 16, 43, 42, 18, 204, 3, 16, 99, 182, 0, 139, 181, 0, 206, 42]
abbrev dktX5_apple_8 : List UInt8 := dkwX5_apple_8 ++ dktX5_apple_9
def dkwX5_apple_7 : List UInt8 := [42, 18, 192, 3, 16, 9, 182, 0, 139, 181, 0, 194, 43, 42, 18, 196, 182, 0, 198, 181, 0, 201, 42]
abbrev dktX5_apple_7 : List UInt8 := dkwX5_apple_7 ++ dktX5_apple_8
def dkwX5_apple_6 : List UInt8 := [183, 0, 86, 191, 132, 3, 1, 167, 255, 181, 43, 42, 18, 188, 4, 16, 99, 182, 0, 139, 181, 0, 189, 43]
abbrev dktX5_apple_6 : List UInt8 := dkwX5_apple_6 ++ dktX5_apple_7
def dkwX5_apple_5 : List UInt8 := [182, 0, 111, 192, 0, 121, 180, 0, 185, 43, 180, 0, 185, 160, 0, 13, 187, 0, 84, 89, 6, 28]
abbrev dktX5_apple_5 : List UInt8 := dkwX5_apple_5 ++ dktX5_apple_6
def dkwX5_apple_4 : List UInt8 := [182, 0, 111, 192, 0, 121, 180, 0, 182, 43, 180, 0, 182, 160, 0, 37, 42, 180, 0, 12, 180, 0, 118, 29]
abbrev dktX5_apple_4 : List UInt8 := dkwX5_apple_4 ++ dktX5_apple_5
def dkwX5_apple_3 : List UInt8 := [62, 29, 42, 180, 0, 12, 180, 0, 118, 182, 0, 107, 162, 0, 67, 42, 180, 0, 12, 180, 0, 118, 29]
abbrev dktX5_apple_3 : List UInt8 := dkwX5_apple_3 ++ dktX5_apple_4
def dkwX5_apple_2 : List UInt8 := [42, 180, 0, 29, 61, 43, 42, 3, 42, 180, 0, 12, 180, 0, 143, 4, 100, 182, 0, 100, 181, 0, 185, 3]
abbrev dktX5_apple_2 : List UInt8 := dkwX5_apple_2 ++ dktX5_apple_3
def dkwX5_apple_1 : List UInt8 := [183, 0, 178, 76, 43, 42, 18, 181, 3, 42, 180, 0, 12, 180, 0, 134, 4, 100, 182, 0, 139, 181, 0, 182]
abbrev dktX5_apple_1 : List UInt8 := dkwX5_apple_1 ++ dktX5_apple_2
def dkwX5_apple_0 : List UInt8 := [42, 182, 0, 157, 154, 0, 8, 42, 182, 0, 89, 191, 187, 0, 121, 89, 42, 42, 182, 0, 175, 182, 0, 164]
abbrev dktX5_apple_0 : List UInt8 := dkwX5_apple_0 ++ dktX5_apple_1
theorem dksX5_apple_0 : cX5_apple.data.toList.drop 0 = dktX5_apple_0 := by decide +kernel
theorem dksX5_apple_1 : cX5_apple.data.toList.drop 24 = dktX5_apple_1 := dk_seg dksX5_apple_0 24 rfl rfl
theorem dksX5_apple_2 : cX5_apple.data.toList.drop 48 = dktX5_apple_2 := dk_seg dksX5_apple_1 24 rfl rfl
theorem dksX5_apple_3 : cX5_apple.data.toList.drop 72 = dktX5_apple_3 := dk_seg dksX5_apple_2 24 rfl rfl
theorem dksX5_apple_4 : cX5_apple.data.toList.drop 95 = dktX5_apple_4 := dk_seg dksX5_apple_3 23 rfl rfl
theorem dksX5_apple_5 : cX5_apple.data.toList.drop 119 = dktX5_apple_5 := dk_seg dksX5_apple_4 24 rfl rfl
theorem dksX5_apple_6 : cX5_apple.data.toList.drop 141 = dktX5_apple_6 := dk_seg dksX5_apple_5 22 rfl rfl
theorem dksX5_apple_7 : cX5_apple.data.toList.drop 165 = dktX5_apple_7 := dk_seg dksX5_apple_6 24 rfl rfl
theorem dksX5_apple_8 : cX5_apple.data.toList.drop 188 = dktX5_apple_8 := dk_seg dksX5_apple_7 23 rfl rfl
theorem dksX5_apple_9 : cX5_apple.data.toList.drop 210 = dktX5_apple_9 := dk_seg dksX5_apple_8 22 rfl rfl
theorem dX5_apple_0 : decode cX5_apple 0 = .ok (.aload_n 0, 1) := dk_42 (dk_at dksX5_apple_0 0 rfl rfl)
theorem dX5_apple_1 : decode cX5_apple 1 = .ok (.invokevirtual 157, 3) := dk_182 0 157 (dk_at dksX5_apple_0 1 rfl rfl)
theorem dX5_apple_4 : decode cX5_apple 4 = .ok (.ifCond .ne 8, 3) := dk_154 0 8 (dk_at dksX5_apple_0 4 rfl rfl)
theorem dX5_apple_7 : decode cX5_apple 7 = .ok (.aload_n 0, 1) := dk_42 (dk_at dksX5_apple_0 7 rfl rfl)
theorem dX5_apple_8 : decode cX5_apple 8 = .ok (.invokevirtual 89, 3) := dk_182 0 89 (dk_at dksX5_apple_0 8 rfl rfl)
theorem dX5_apple_11 : decode cX5_apple 11 = .ok (.athrow, 1) := dk_191 (dk_at dksX5_apple_0 11 rfl rfl)
theorem dX5_apple_12 : decode cX5_apple 12 = .ok (.new 121, 3) := dk_187 0 121 (dk_at dksX5_apple_0 12 rfl rfl)
theorem dX5_apple_15 : decode cX5_apple 15 = .ok (.dup, 1) := dk_89 (dk_at dksX5_apple_0 15 rfl rfl)
theorem dX5_apple_16 : decode cX5_apple 16 = .ok (.aload_n 0, 1) := dk_42 (dk_at dksX5_apple_0 16 rfl rfl)
theorem dX5_apple_17 : decode cX5_apple 17 = .ok (.aload_n 0, 1) := dk_42 (dk_at dksX5_apple_0 17 rfl rfl)
theorem dX5_apple_18 : decode cX5_apple 18 = .ok (.invokevirtual 175, 3) := dk_182 0 175 (dk_at dksX5_apple_0 18 rfl rfl)
theorem dX5_apple_21 : decode cX5_apple 21 = .ok (.invokevirtual 164, 3) := dk_182 0 164 (dk_at dksX5_apple_0 21 rfl rfl)
theorem dX5_apple_24 : decode cX5_apple 24 = .ok (.invokespecial 178, 3) := dk_183 0 178 (dk_at dksX5_apple_1 0 rfl rfl)
theorem dX5_apple_27 : decode cX5_apple 27 = .ok (.astore_n 1, 1) := dk_76 (dk_at dksX5_apple_1 3 rfl rfl)
theorem dX5_apple_28 : decode cX5_apple 28 = .ok (.aload_n 1, 1) := dk_43 (dk_at dksX5_apple_1 4 rfl rfl)
theorem dX5_apple_29 : decode cX5_apple 29 = .ok (.aload_n 0, 1) := dk_42 (dk_at dksX5_apple_1 5 rfl rfl)
theorem dX5_apple_30 : decode cX5_apple 30 = .ok (.ldc 181, 2) := dk_18 181 (dk_at dksX5_apple_1 6 rfl rfl)
theorem dX5_apple_32 : decode cX5_apple 32 = .ok (.iconst 0, 1) := dk_3 (dk_at dksX5_apple_1 8 rfl rfl)
theorem dX5_apple_33 : decode cX5_apple 33 = .ok (.aload_n 0, 1) := dk_42 (dk_at dksX5_apple_1 9 rfl rfl)
theorem dX5_apple_34 : decode cX5_apple 34 = .ok (.getfield 12, 3) := dk_180 0 12 (dk_at dksX5_apple_1 10 rfl rfl)
theorem dX5_apple_37 : decode cX5_apple 37 = .ok (.getfield 134, 3) := dk_180 0 134 (dk_at dksX5_apple_1 13 rfl rfl)
theorem dX5_apple_40 : decode cX5_apple 40 = .ok (.iconst 1, 1) := dk_4 (dk_at dksX5_apple_1 16 rfl rfl)
theorem dX5_apple_41 : decode cX5_apple 41 = .ok (.isub, 1) := dk_100 (dk_at dksX5_apple_1 17 rfl rfl)
theorem dX5_apple_42 : decode cX5_apple 42 = .ok (.invokevirtual 139, 3) := dk_182 0 139 (dk_at dksX5_apple_1 18 rfl rfl)
theorem dX5_apple_45 : decode cX5_apple 45 = .ok (.putfield 182, 3) := dk_181 0 182 (dk_at dksX5_apple_1 21 rfl rfl)
theorem dX5_apple_48 : decode cX5_apple 48 = .ok (.aload_n 0, 1) := dk_42 (dk_at dksX5_apple_2 0 rfl rfl)
theorem dX5_apple_49 : decode cX5_apple 49 = .ok (.getfield 29, 3) := dk_180 0 29 (dk_at dksX5_apple_2 1 rfl rfl)
theorem dX5_apple_52 : decode cX5_apple 52 = .ok (.istore_n 2, 1) := dk_61 (dk_at dksX5_apple_2 4 rfl rfl)
theorem dX5_apple_53 : decode cX5_apple 53 = .ok (.aload_n 1, 1) := dk_43 (dk_at dksX5_apple_2 5 rfl rfl)
theorem dX5_apple_54 : decode cX5_apple 54 = .ok (.aload_n 0, 1) := dk_42 (dk_at dksX5_apple_2 6 rfl rfl)
theorem dX5_apple_55 : decode cX5_apple 55 = .ok (.iconst 0, 1) := dk_3 (dk_at dksX5_apple_2 7 rfl rfl)
theorem dX5_apple_56 : decode cX5_apple 56 = .ok (.aload_n 0, 1) := dk_42 (dk_at dksX5_apple_2 8 rfl rfl)
theorem dX5_apple_57 : decode cX5_apple 57 = .ok (.getfield 12, 3) := dk_180 0 12 (dk_at dksX5_apple_2 9 rfl rfl)
theorem dX5_apple_60 : decode cX5_apple 60 = .ok (.getfield 143, 3) := dk_180 0 143 (dk_at dksX5_apple_2 12 rfl rfl)
theorem dX5_apple_63 : decode cX5_apple 63 = .ok (.iconst 1, 1) := dk_4 (dk_at dksX5_apple_2 15 rfl rfl)
theorem dX5_apple_64 : decode cX5_apple 64 = .ok (.isub, 1) := dk_100 (dk_at dksX5_apple_2 16 rfl rfl)
theorem dX5_apple_65 : decode cX5_apple 65 = .ok (.invokevirtual 100, 3) := dk_182 0 100 (dk_at dksX5_apple_2 17 rfl rfl)
theorem dX5_apple_68 : decode cX5_apple 68 = .ok (.putfield 185, 3) := dk_181 0 185 (dk_at dksX5_apple_2 20 rfl rfl)
theorem dX5_apple_71 : decode cX5_apple 71 = .ok (.iconst 0, 1) := dk_3 (dk_at dksX5_apple_2 23 rfl rfl)
theorem dX5_apple_72 : decode cX5_apple 72 = .ok (.istore_n 3, 1) := dk_62 (dk_at dksX5_apple_3 0 rfl rfl)
theorem dX5_apple_73 : decode cX5_apple 73 = .ok (.iload_n 3, 1) := dk_29 (dk_at dksX5_apple_3 1 rfl rfl)
theorem dX5_apple_74 : decode cX5_apple 74 = .ok (.aload_n 0, 1) := dk_42 (dk_at dksX5_apple_3 2 rfl rfl)
theorem dX5_apple_75 : decode cX5_apple 75 = .ok (.getfield 12, 3) := dk_180 0 12 (dk_at dksX5_apple_3 3 rfl rfl)
theorem dX5_apple_78 : decode cX5_apple 78 = .ok (.getfield 118, 3) := dk_180 0 118 (dk_at dksX5_apple_3 6 rfl rfl)
theorem dX5_apple_81 : decode cX5_apple 81 = .ok (.invokevirtual 107, 3) := dk_182 0 107 (dk_at dksX5_apple_3 9 rfl rfl)
theorem dX5_apple_84 : decode cX5_apple 84 = .ok (.if_icmp .ge 67, 3) := dk_162 0 67 (dk_at dksX5_apple_3 12 rfl rfl)
theorem dX5_apple_87 : decode cX5_apple 87 = .ok (.aload_n 0, 1) := dk_42 (dk_at dksX5_apple_3 15 rfl rfl)
theorem dX5_apple_88 : decode cX5_apple 88 = .ok (.getfield 12, 3) := dk_180 0 12 (dk_at dksX5_apple_3 16 rfl rfl)
theorem dX5_apple_91 : decode cX5_apple 91 = .ok (.getfield 118, 3) := dk_180 0 118 (dk_at dksX5_apple_3 19 rfl rfl)
theorem dX5_apple_94 : decode cX5_apple 94 = .ok (.iload_n 3, 1) := dk_29 (dk_at dksX5_apple_3 22 rfl rfl)
theorem dX5_apple_95 : decode cX5_apple 95 = .ok (.invokevirtual 111, 3) := dk_182 0 111 (dk_at dksX5_apple_4 0 rfl rfl)
theorem dX5_apple_98 : decode cX5_apple 98 = .ok (.checkcast 121, 3) := dk_192 0 121 (dk_at dksX5_apple_4 3 rfl rfl)
theorem dX5_apple_101 : decode cX5_apple 101 = .ok (.getfield 182, 3) := dk_180 0 182 (dk_at dksX5_apple_4 6 rfl rfl)
theorem dX5_apple_104 : decode cX5_apple 104 = .ok (.aload_n 1, 1) := dk_43 (dk_at dksX5_apple_4 9 rfl rfl)
theorem dX5_apple_105 : decode cX5_apple 105 = .ok (.getfield 182, 3) := dk_180 0 182 (dk_at dksX5_apple_4 10 rfl rfl)
theorem dX5_apple_108 : decode cX5_apple 108 = .ok (.if_icmp .ne 37, 3) := dk_160 0 37 (dk_at dksX5_apple_4 13 rfl rfl)
theorem dX5_apple_111 : decode cX5_apple 111 = .ok (.aload_n 0, 1) := dk_42 (dk_at dksX5_apple_4 16 rfl rfl)
theorem dX5_apple_112 : decode cX5_apple 112 = .ok (.getfield 12, 3) := dk_180 0 12 (dk_at dksX5_apple_4 17 rfl rfl)
theorem dX5_apple_115 : decode cX5_apple 115 = .ok (.getfield 118, 3) := dk_180 0 118 (dk_at dksX5_apple_4 20 rfl rfl)
theorem dX5_apple_118 : decode cX5_apple 118 = .ok (.iload_n 3, 1) := dk_29 (dk_at dksX5_apple_4 23 rfl rfl)
theorem dX5_apple_119 : decode cX5_apple 119 = .ok (.invokevirtual 111, 3) := dk_182 0 111 (dk_at dksX5_apple_5 0 rfl rfl)
theorem dX5_apple_122 : decode cX5_apple 122 = .ok (.checkcast 121, 3) := dk_192 0 121 (dk_at dksX5_apple_5 3 rfl rfl)
theorem dX5_apple_125 : decode cX5_apple 125 = .ok (.getfield 185, 3) := dk_180 0 185 (dk_at dksX5_apple_5 6 rfl rfl)
theorem dX5_apple_128 : decode cX5_apple 128 = .ok (.aload_n 1, 1) := dk_43 (dk_at dksX5_apple_5 9 rfl rfl)
theorem dX5_apple_129 : decode cX5_apple 129 = .ok (.getfield 185, 3) := dk_180 0 185 (dk_at dksX5_apple_5 10 rfl rfl)
theorem dX5_apple_132 : decode cX5_apple 132 = .ok (.if_icmp .ne 13, 3) := dk_160 0 13 (dk_at dksX5_apple_5 13 rfl rfl)
theorem dX5_apple_135 : decode cX5_apple 135 = .ok (.new 84, 3) := dk_187 0 84 (dk_at dksX5_apple_5 16 rfl rfl)
theorem dX5_apple_138 : decode cX5_apple 138 = .ok (.dup, 1) := dk_89 (dk_at dksX5_apple_5 19 rfl rfl)
theorem dX5_apple_139 : decode cX5_apple 139 = .ok (.iconst 3, 1) := dk_6 (dk_at dksX5_apple_5 20 rfl rfl)
theorem dX5_apple_140 : decode cX5_apple 140 = .ok (.iload_n 2, 1) := dk_28 (dk_at dksX5_apple_5 21 rfl rfl)
theorem dX5_apple_141 : decode cX5_apple 141 = .ok (.invokespecial 86, 3) := dk_183 0 86 (dk_at dksX5_apple_6 0 rfl rfl)
theorem dX5_apple_144 : decode cX5_apple 144 = .ok (.athrow, 1) := dk_191 (dk_at dksX5_apple_6 3 rfl rfl)
theorem dX5_apple_145 : decode cX5_apple 145 = .ok (.iinc 3 1, 3) := dk_132 3 1 (dk_at dksX5_apple_6 4 rfl rfl)
theorem dX5_apple_148 : decode cX5_apple 148 = .ok (.goto (-75), 3) := dk_167 255 181 (dk_at dksX5_apple_6 7 rfl rfl)
theorem dX5_apple_151 : decode cX5_apple 151 = .ok (.aload_n 1, 1) := dk_43 (dk_at dksX5_apple_6 10 rfl rfl)
theorem dX5_apple_152 : decode cX5_apple 152 = .ok (.aload_n 0, 1) := dk_42 (dk_at dksX5_apple_6 11 rfl rfl)
theorem dX5_apple_153 : decode cX5_apple 153 = .ok (.ldc 188, 2) := dk_18 188 (dk_at dksX5_apple_6 12 rfl rfl)
theorem dX5_apple_155 : decode cX5_apple 155 = .ok (.iconst 1, 1) := dk_4 (dk_at dksX5_apple_6 14 rfl rfl)
theorem dX5_apple_156 : decode cX5_apple 156 = .ok (.bipush 99, 2) := dk_16 99 (dk_at dksX5_apple_6 15 rfl rfl)
theorem dX5_apple_158 : decode cX5_apple 158 = .ok (.invokevirtual 139, 3) := dk_182 0 139 (dk_at dksX5_apple_6 17 rfl rfl)
theorem dX5_apple_161 : decode cX5_apple 161 = .ok (.putfield 189, 3) := dk_181 0 189 (dk_at dksX5_apple_6 20 rfl rfl)
theorem dX5_apple_164 : decode cX5_apple 164 = .ok (.aload_n 1, 1) := dk_43 (dk_at dksX5_apple_6 23 rfl rfl)
theorem dX5_apple_165 : decode cX5_apple 165 = .ok (.aload_n 0, 1) := dk_42 (dk_at dksX5_apple_7 0 rfl rfl)
theorem dX5_apple_166 : decode cX5_apple 166 = .ok (.ldc 192, 2) := dk_18 192 (dk_at dksX5_apple_7 1 rfl rfl)
theorem dX5_apple_168 : decode cX5_apple 168 = .ok (.iconst 0, 1) := dk_3 (dk_at dksX5_apple_7 3 rfl rfl)
theorem dX5_apple_169 : decode cX5_apple 169 = .ok (.bipush 9, 2) := dk_16 9 (dk_at dksX5_apple_7 4 rfl rfl)
theorem dX5_apple_171 : decode cX5_apple 171 = .ok (.invokevirtual 139, 3) := dk_182 0 139 (dk_at dksX5_apple_7 6 rfl rfl)
theorem dX5_apple_174 : decode cX5_apple 174 = .ok (.putfield 194, 3) := dk_181 0 194 (dk_at dksX5_apple_7 9 rfl rfl)
theorem dX5_apple_177 : decode cX5_apple 177 = .ok (.aload_n 1, 1) := dk_43 (dk_at dksX5_apple_7 12 rfl rfl)
theorem dX5_apple_178 : decode cX5_apple 178 = .ok (.aload_n 0, 1) := dk_42 (dk_at dksX5_apple_7 13 rfl rfl)
theorem dX5_apple_179 : decode cX5_apple 179 = .ok (.ldc 196, 2) := dk_18 196 (dk_at dksX5_apple_7 14 rfl rfl)
theorem dX5_apple_181 : decode cX5_apple 181 = .ok (.invokevirtual 198, 3) := dk_182 0 198 (dk_at dksX5_apple_7 16 rfl rfl)
theorem dX5_apple_184 : decode cX5_apple 184 = .ok (.putfield 201, 3) := dk_181 0 201 (dk_at dksX5_apple_7 19 rfl rfl)
theorem dX5_apple_187 : decode cX5_apple 187 = .ok (.aload_n 0, 1) := dk_42 (dk_at dksX5_apple_7 22 rfl rfl)
theorem dX5_apple_188 : decode cX5_apple 188 = .ok (.ldc 204, 2) := dk_18 204 (dk_at dksX5_apple_8 0 rfl rfl)
theorem dX5_apple_190 : decode cX5_apple 190 = .ok (.invokevirtual 72, 3) := dk_182 0 72 (dk_at dksX5_apple_8 2 rfl rfl)
theorem dX5_apple_193 : decode cX5_apple 193 = .ok (.ifCond .eq 16, 3) := dk_153 0 16 (dk_at dksX5_apple_8 5 rfl rfl)
theorem dX5_apple_196 : decode cX5_apple 196 = .ok (.aload_n 1, 1) := dk_43 (dk_at dksX5_apple_8 8 rfl rfl)
theorem dX5_apple_197 : decode cX5_apple 197 = .ok (.aload_n 0, 1) := dk_42 (dk_at dksX5_apple_8 9 rfl rfl)
theorem dX5_apple_198 : decode cX5_apple 198 = .ok (.ldc 204, 2) := dk_18 204 (dk_at dksX5_apple_8 10 rfl rfl)
theorem dX5_apple_200 : decode cX5_apple 200 = .ok (.iconst 0, 1) := dk_3 (dk_at dksX5_apple_8 12 rfl rfl)
theorem dX5_apple_201 : decode cX5_apple 201 = .ok (.bipush 99, 2) := dk_16 99 (dk_at dksX5_apple_8 13 rfl rfl)
theorem dX5_apple_203 : decode cX5_apple 203 = .ok (.invokevirtual 139, 3) := dk_182 0 139 (dk_at dksX5_apple_8 15 rfl rfl)
theorem dX5_apple_206 : decode cX5_apple 206 = .ok (.putfield 206, 3) := dk_181 0 206 (dk_at dksX5_apple_8 18 rfl rfl)
theorem dX5_apple_209 : decode cX5_apple 209 = .ok (.aload_n 0, 1) := dk_42 (dk_at dksX5_apple_8 21 rfl rfl)
theorem dX5_apple_210 : decode cX5_apple 210 = .ok (.getfield 12, 3) := dk_180 0 12 (dk_at dksX5_apple_9 0 rfl rfl)
theorem dX5_apple_213 : decode cX5_apple 213 = .ok (.getfield 118, 3) := dk_180 0 118 (dk_at dksX5_apple_9 3 rfl rfl)
theorem dX5_apple_216 : decode cX5_apple 216 = .ok (.aload_n 1, 1) := dk_43 (dk_at dksX5_apple_9 6 rfl rfl)
theorem dX5_apple_217 : decode cX5_apple 217 = .ok (.invokevirtual 171, 3) := dk_182 0 171 (dk_at dksX5_apple_9 7 rfl rfl)
theorem dX5_apple_220 : decode cX5_apple 220 = .ok (.pop, 1) := dk_87 (dk_at dksX5_apple_9 10 rfl rfl)
theorem dX5_apple_221 : decode cX5_apple 221 = .ok (.return_, 1) := dk_177 (dk_at dksX5_apple_9 11 rfl rfl)
abbrev cX5_isApple : ByteArray := prog_13_method_20_code
def yX5_isApple : MethodName := ⟨RX5, "isApple", "()Z"⟩
def dkwX5_isApple_2 : List UInt8 := [167, 255, 212, 3, 172]
abbrev dktX5_isApple_2 : List UInt8 := dkwX5_isApple_2 ++ []
def dkwX5_isApple_1 : List UInt8 := [182, 0, 111, 192, 0, 121, 180, 0, 123, 42, 180, 0, 55, 148, 154, 0, 5, 4, 172, 132, 1, 1]
abbrev dktX5_isApple_1 : List UInt8 := dkwX5_isApple_1 ++ dktX5_isApple_2
def dkwX5_isApple_0 : List UInt8 := [3, 60, 27, 42, 180, 0, 12, 180, 0, 118, 182, 0, 107, 162, 0, 36, 42, 180, 0, 12, 180, 0, 118, 27]
abbrev dktX5_isApple_0 : List UInt8 := dkwX5_isApple_0 ++ dktX5_isApple_1
theorem dksX5_isApple_0 : cX5_isApple.data.toList.drop 0 = dktX5_isApple_0 := by decide +kernel
theorem dksX5_isApple_1 : cX5_isApple.data.toList.drop 24 = dktX5_isApple_1 := dk_seg dksX5_isApple_0 24 rfl rfl
theorem dksX5_isApple_2 : cX5_isApple.data.toList.drop 46 = dktX5_isApple_2 := dk_seg dksX5_isApple_1 22 rfl rfl
theorem dX5_isApple_0 : decode cX5_isApple 0 = .ok (.iconst 0, 1) := dk_3 (dk_at dksX5_isApple_0 0 rfl rfl)
theorem dX5_isApple_1 : decode cX5_isApple 1 = .ok (.istore_n 1, 1) := dk_60 (dk_at dksX5_isApple_0 1 rfl rfl)
theorem dX5_isApple_2 : decode cX5_isApple 2 = .ok (.iload_n 1, 1) := dk_27 (dk_at dksX5_isApple_0 2 rfl rfl)
theorem dX5_isApple_3 : decode cX5_isApple 3 = .ok (.aload_n 0, 1) := dk_42 (dk_at dksX5_isApple_0 3 rfl rfl)
theorem dX5_isApple_4 : decode cX5_isApple 4 = .ok (.getfield 12, 3) := dk_180 0 12 (dk_at dksX5_isApple_0 4 rfl rfl)
theorem dX5_isApple_7 : decode cX5_isApple 7 = .ok (.getfield 118, 3) := dk_180 0 118 (dk_at dksX5_isApple_0 7 rfl rfl)
theorem dX5_isApple_10 : decode cX5_isApple 10 = .ok (.invokevirtual 107, 3) := dk_182 0 107 (dk_at dksX5_isApple_0 10 rfl rfl)
theorem dX5_isApple_13 : decode cX5_isApple 13 = .ok (.if_icmp .ge 36, 3) := dk_162 0 36 (dk_at dksX5_isApple_0 13 rfl rfl)
theorem dX5_isApple_16 : decode cX5_isApple 16 = .ok (.aload_n 0, 1) := dk_42 (dk_at dksX5_isApple_0 16 rfl rfl)
theorem dX5_isApple_17 : decode cX5_isApple 17 = .ok (.getfield 12, 3) := dk_180 0 12 (dk_at dksX5_isApple_0 17 rfl rfl)
theorem dX5_isApple_20 : decode cX5_isApple 20 = .ok (.getfield 118, 3) := dk_180 0 118 (dk_at dksX5_isApple_0 20 rfl rfl)
theorem dX5_isApple_23 : decode cX5_isApple 23 = .ok (.iload_n 1, 1) := dk_27 (dk_at dksX5_isApple_0 23 rfl rfl)
theorem dX5_isApple_24 : decode cX5_isApple 24 = .ok (.invokevirtual 111, 3) := dk_182 0 111 (dk_at dksX5_isApple_1 0 rfl rfl)
theorem dX5_isApple_27 : decode cX5_isApple 27 = .ok (.checkcast 121, 3) := dk_192 0 121 (dk_at dksX5_isApple_1 3 rfl rfl)
theorem dX5_isApple_30 : decode cX5_isApple 30 = .ok (.getfield 123, 3) := dk_180 0 123 (dk_at dksX5_isApple_1 6 rfl rfl)
theorem dX5_isApple_33 : decode cX5_isApple 33 = .ok (.aload_n 0, 1) := dk_42 (dk_at dksX5_isApple_1 9 rfl rfl)
theorem dX5_isApple_34 : decode cX5_isApple 34 = .ok (.getfield 55, 3) := dk_180 0 55 (dk_at dksX5_isApple_1 10 rfl rfl)
theorem dX5_isApple_37 : decode cX5_isApple 37 = .ok (.lcmp, 1) := dk_148 (dk_at dksX5_isApple_1 13 rfl rfl)
theorem dX5_isApple_38 : decode cX5_isApple 38 = .ok (.ifCond .ne 5, 3) := dk_154 0 5 (dk_at dksX5_isApple_1 14 rfl rfl)
theorem dX5_isApple_41 : decode cX5_isApple 41 = .ok (.iconst 1, 1) := dk_4 (dk_at dksX5_isApple_1 17 rfl rfl)
theorem dX5_isApple_42 : decode cX5_isApple 42 = .ok (.ireturn, 1) := dk_172 (dk_at dksX5_isApple_1 18 rfl rfl)
theorem dX5_isApple_43 : decode cX5_isApple 43 = .ok (.iinc 1 1, 3) := dk_132 1 1 (dk_at dksX5_isApple_1 19 rfl rfl)
theorem dX5_isApple_46 : decode cX5_isApple 46 = .ok (.goto (-44), 3) := dk_167 255 212 (dk_at dksX5_isApple_2 0 rfl rfl)
theorem dX5_isApple_49 : decode cX5_isApple 49 = .ok (.iconst 0, 1) := dk_3 (dk_at dksX5_isApple_2 3 rfl rfl)
theorem dX5_isApple_50 : decode cX5_isApple 50 = .ok (.ireturn, 1) := dk_172 (dk_at dksX5_isApple_2 4 rfl rfl)
abbrev cX5_bobber : ByteArray := prog_13_method_26_code
def yX5_bobber : MethodName := ⟨RX5, "bobber", "()V"⟩
def dkwX5_bobber_7 : List UInt8 := [87, 177]
abbrev dktX5_bobber_7 : List UInt8 := dkwX5_bobber_7 ++ []
def dkwX5_bobber_6 : List UInt8 := [8, 42, 180, 0, 29, 183, 0, 86, 191, 42, 182, 0, 93, 42, 180, 0, 12, 180, 0, 124, 43, 182, 0, 171]
abbrev dktX5_bobber_6 : List UInt8 := dkwX5_bobber_6 ++ dktX5_bobber_7
def dkwX5_bobber_5 : List UInt8 := [42, 182, 0, 89, 191, 43, 42, 182, 0, 161, 181, 0, 231, 43, 180, 0, 231, 156, 0, 16, 187, 0, 84, 89]
abbrev dktX5_bobber_5 : List UInt8 := dkwX5_bobber_5 ++ dktX5_bobber_6
def dkwX5_bobber_4 : List UInt8 := [16, 9, 182, 0, 139, 181, 0, 229, 42, 18, 137, 182, 0, 198, 153, 0, 47, 42, 182, 0, 157, 154, 0, 8]
abbrev dktX5_bobber_4 : List UInt8 := dkwX5_bobber_4 ++ dktX5_bobber_5
def dkwX5_bobber_3 : List UInt8 := [182, 0, 139, 181, 0, 220, 43, 42, 18, 222, 3, 16, 20, 182, 0, 139, 181, 0, 224, 43, 42, 18, 227, 3]
abbrev dktX5_bobber_3 : List UInt8 := dkwX5_bobber_3 ++ dktX5_bobber_4
def dkwX5_bobber_2 : List UInt8 := [43, 42, 3, 42, 180, 0, 12, 180, 0, 143, 4, 100, 182, 0, 100, 181, 0, 215, 43, 42, 18, 218, 3, 8]
abbrev dktX5_bobber_2 : List UInt8 := dkwX5_bobber_2 ++ dktX5_bobber_3
def dkwX5_bobber_1 : List UInt8 := [183, 0, 211, 76, 43, 42, 18, 181, 3, 42, 180, 0, 12, 180, 0, 134, 4, 100, 182, 0, 139, 181, 0, 212]
abbrev dktX5_bobber_1 : List UInt8 := dkwX5_bobber_1 ++ dktX5_bobber_2
def dkwX5_bobber_0 : List UInt8 := [42, 182, 0, 157, 154, 0, 8, 42, 182, 0, 89, 191, 187, 0, 127, 89, 42, 42, 182, 0, 208, 182, 0, 164]
abbrev dktX5_bobber_0 : List UInt8 := dkwX5_bobber_0 ++ dktX5_bobber_1
theorem dksX5_bobber_0 : cX5_bobber.data.toList.drop 0 = dktX5_bobber_0 := by decide +kernel
theorem dksX5_bobber_1 : cX5_bobber.data.toList.drop 24 = dktX5_bobber_1 := dk_seg dksX5_bobber_0 24 rfl rfl
theorem dksX5_bobber_2 : cX5_bobber.data.toList.drop 48 = dktX5_bobber_2 := dk_seg dksX5_bobber_1 24 rfl rfl
theorem dksX5_bobber_3 : cX5_bobber.data.toList.drop 72 = dktX5_bobber_3 := dk_seg dksX5_bobber_2 24 rfl rfl
theorem dksX5_bobber_4 : cX5_bobber.data.toList.drop 96 = dktX5_bobber_4 := dk_seg dksX5_bobber_3 24 rfl rfl
theorem dksX5_bobber_5 : cX5_bobber.data.toList.drop 120 = dktX5_bobber_5 := dk_seg dksX5_bobber_4 24 rfl rfl
theorem dksX5_bobber_6 : cX5_bobber.data.toList.drop 144 = dktX5_bobber_6 := dk_seg dksX5_bobber_5 24 rfl rfl
theorem dksX5_bobber_7 : cX5_bobber.data.toList.drop 168 = dktX5_bobber_7 := dk_seg dksX5_bobber_6 24 rfl rfl
theorem dX5_bobber_0 : decode cX5_bobber 0 = .ok (.aload_n 0, 1) := dk_42 (dk_at dksX5_bobber_0 0 rfl rfl)
theorem dX5_bobber_1 : decode cX5_bobber 1 = .ok (.invokevirtual 157, 3) := dk_182 0 157 (dk_at dksX5_bobber_0 1 rfl rfl)
theorem dX5_bobber_4 : decode cX5_bobber 4 = .ok (.ifCond .ne 8, 3) := dk_154 0 8 (dk_at dksX5_bobber_0 4 rfl rfl)
theorem dX5_bobber_7 : decode cX5_bobber 7 = .ok (.aload_n 0, 1) := dk_42 (dk_at dksX5_bobber_0 7 rfl rfl)
theorem dX5_bobber_8 : decode cX5_bobber 8 = .ok (.invokevirtual 89, 3) := dk_182 0 89 (dk_at dksX5_bobber_0 8 rfl rfl)
theorem dX5_bobber_11 : decode cX5_bobber 11 = .ok (.athrow, 1) := dk_191 (dk_at dksX5_bobber_0 11 rfl rfl)
theorem dX5_bobber_12 : decode cX5_bobber 12 = .ok (.new 127, 3) := dk_187 0 127 (dk_at dksX5_bobber_0 12 rfl rfl)
theorem dX5_bobber_15 : decode cX5_bobber 15 = .ok (.dup, 1) := dk_89 (dk_at dksX5_bobber_0 15 rfl rfl)
theorem dX5_bobber_16 : decode cX5_bobber 16 = .ok (.aload_n 0, 1) := dk_42 (dk_at dksX5_bobber_0 16 rfl rfl)
theorem dX5_bobber_17 : decode cX5_bobber 17 = .ok (.aload_n 0, 1) := dk_42 (dk_at dksX5_bobber_0 17 rfl rfl)
theorem dX5_bobber_18 : decode cX5_bobber 18 = .ok (.invokevirtual 208, 3) := dk_182 0 208 (dk_at dksX5_bobber_0 18 rfl rfl)
theorem dX5_bobber_21 : decode cX5_bobber 21 = .ok (.invokevirtual 164, 3) := dk_182 0 164 (dk_at dksX5_bobber_0 21 rfl rfl)
theorem dX5_bobber_24 : decode cX5_bobber 24 = .ok (.invokespecial 211, 3) := dk_183 0 211 (dk_at dksX5_bobber_1 0 rfl rfl)
theorem dX5_bobber_27 : decode cX5_bobber 27 = .ok (.astore_n 1, 1) := dk_76 (dk_at dksX5_bobber_1 3 rfl rfl)
theorem dX5_bobber_28 : decode cX5_bobber 28 = .ok (.aload_n 1, 1) := dk_43 (dk_at dksX5_bobber_1 4 rfl rfl)
theorem dX5_bobber_29 : decode cX5_bobber 29 = .ok (.aload_n 0, 1) := dk_42 (dk_at dksX5_bobber_1 5 rfl rfl)
theorem dX5_bobber_30 : decode cX5_bobber 30 = .ok (.ldc 181, 2) := dk_18 181 (dk_at dksX5_bobber_1 6 rfl rfl)
theorem dX5_bobber_32 : decode cX5_bobber 32 = .ok (.iconst 0, 1) := dk_3 (dk_at dksX5_bobber_1 8 rfl rfl)
theorem dX5_bobber_33 : decode cX5_bobber 33 = .ok (.aload_n 0, 1) := dk_42 (dk_at dksX5_bobber_1 9 rfl rfl)
theorem dX5_bobber_34 : decode cX5_bobber 34 = .ok (.getfield 12, 3) := dk_180 0 12 (dk_at dksX5_bobber_1 10 rfl rfl)
theorem dX5_bobber_37 : decode cX5_bobber 37 = .ok (.getfield 134, 3) := dk_180 0 134 (dk_at dksX5_bobber_1 13 rfl rfl)
theorem dX5_bobber_40 : decode cX5_bobber 40 = .ok (.iconst 1, 1) := dk_4 (dk_at dksX5_bobber_1 16 rfl rfl)
theorem dX5_bobber_41 : decode cX5_bobber 41 = .ok (.isub, 1) := dk_100 (dk_at dksX5_bobber_1 17 rfl rfl)
theorem dX5_bobber_42 : decode cX5_bobber 42 = .ok (.invokevirtual 139, 3) := dk_182 0 139 (dk_at dksX5_bobber_1 18 rfl rfl)
theorem dX5_bobber_45 : decode cX5_bobber 45 = .ok (.putfield 212, 3) := dk_181 0 212 (dk_at dksX5_bobber_1 21 rfl rfl)
theorem dX5_bobber_48 : decode cX5_bobber 48 = .ok (.aload_n 1, 1) := dk_43 (dk_at dksX5_bobber_2 0 rfl rfl)
theorem dX5_bobber_49 : decode cX5_bobber 49 = .ok (.aload_n 0, 1) := dk_42 (dk_at dksX5_bobber_2 1 rfl rfl)
theorem dX5_bobber_50 : decode cX5_bobber 50 = .ok (.iconst 0, 1) := dk_3 (dk_at dksX5_bobber_2 2 rfl rfl)
theorem dX5_bobber_51 : decode cX5_bobber 51 = .ok (.aload_n 0, 1) := dk_42 (dk_at dksX5_bobber_2 3 rfl rfl)
theorem dX5_bobber_52 : decode cX5_bobber 52 = .ok (.getfield 12, 3) := dk_180 0 12 (dk_at dksX5_bobber_2 4 rfl rfl)
theorem dX5_bobber_55 : decode cX5_bobber 55 = .ok (.getfield 143, 3) := dk_180 0 143 (dk_at dksX5_bobber_2 7 rfl rfl)
theorem dX5_bobber_58 : decode cX5_bobber 58 = .ok (.iconst 1, 1) := dk_4 (dk_at dksX5_bobber_2 10 rfl rfl)
theorem dX5_bobber_59 : decode cX5_bobber 59 = .ok (.isub, 1) := dk_100 (dk_at dksX5_bobber_2 11 rfl rfl)
theorem dX5_bobber_60 : decode cX5_bobber 60 = .ok (.invokevirtual 100, 3) := dk_182 0 100 (dk_at dksX5_bobber_2 12 rfl rfl)
theorem dX5_bobber_63 : decode cX5_bobber 63 = .ok (.putfield 215, 3) := dk_181 0 215 (dk_at dksX5_bobber_2 15 rfl rfl)
theorem dX5_bobber_66 : decode cX5_bobber 66 = .ok (.aload_n 1, 1) := dk_43 (dk_at dksX5_bobber_2 18 rfl rfl)
theorem dX5_bobber_67 : decode cX5_bobber 67 = .ok (.aload_n 0, 1) := dk_42 (dk_at dksX5_bobber_2 19 rfl rfl)
theorem dX5_bobber_68 : decode cX5_bobber 68 = .ok (.ldc 218, 2) := dk_18 218 (dk_at dksX5_bobber_2 20 rfl rfl)
theorem dX5_bobber_70 : decode cX5_bobber 70 = .ok (.iconst 0, 1) := dk_3 (dk_at dksX5_bobber_2 22 rfl rfl)
theorem dX5_bobber_71 : decode cX5_bobber 71 = .ok (.iconst 5, 1) := dk_8 (dk_at dksX5_bobber_2 23 rfl rfl)
theorem dX5_bobber_72 : decode cX5_bobber 72 = .ok (.invokevirtual 139, 3) := dk_182 0 139 (dk_at dksX5_bobber_3 0 rfl rfl)
theorem dX5_bobber_75 : decode cX5_bobber 75 = .ok (.putfield 220, 3) := dk_181 0 220 (dk_at dksX5_bobber_3 3 rfl rfl)
theorem dX5_bobber_78 : decode cX5_bobber 78 = .ok (.aload_n 1, 1) := dk_43 (dk_at dksX5_bobber_3 6 rfl rfl)
theorem dX5_bobber_79 : decode cX5_bobber 79 = .ok (.aload_n 0, 1) := dk_42 (dk_at dksX5_bobber_3 7 rfl rfl)
theorem dX5_bobber_80 : decode cX5_bobber 80 = .ok (.ldc 222, 2) := dk_18 222 (dk_at dksX5_bobber_3 8 rfl rfl)
theorem dX5_bobber_82 : decode cX5_bobber 82 = .ok (.iconst 0, 1) := dk_3 (dk_at dksX5_bobber_3 10 rfl rfl)
theorem dX5_bobber_83 : decode cX5_bobber 83 = .ok (.bipush 20, 2) := dk_16 20 (dk_at dksX5_bobber_3 11 rfl rfl)
theorem dX5_bobber_85 : decode cX5_bobber 85 = .ok (.invokevirtual 139, 3) := dk_182 0 139 (dk_at dksX5_bobber_3 13 rfl rfl)
theorem dX5_bobber_88 : decode cX5_bobber 88 = .ok (.putfield 224, 3) := dk_181 0 224 (dk_at dksX5_bobber_3 16 rfl rfl)
theorem dX5_bobber_91 : decode cX5_bobber 91 = .ok (.aload_n 1, 1) := dk_43 (dk_at dksX5_bobber_3 19 rfl rfl)
theorem dX5_bobber_92 : decode cX5_bobber 92 = .ok (.aload_n 0, 1) := dk_42 (dk_at dksX5_bobber_3 20 rfl rfl)
theorem dX5_bobber_93 : decode cX5_bobber 93 = .ok (.ldc 227, 2) := dk_18 227 (dk_at dksX5_bobber_3 21 rfl rfl)
theorem dX5_bobber_95 : decode cX5_bobber 95 = .ok (.iconst 0, 1) := dk_3 (dk_at dksX5_bobber_3 23 rfl rfl)
theorem dX5_bobber_96 : decode cX5_bobber 96 = .ok (.bipush 9, 2) := dk_16 9 (dk_at dksX5_bobber_4 0 rfl rfl)
theorem dX5_bobber_98 : decode cX5_bobber 98 = .ok (.invokevirtual 139, 3) := dk_182 0 139 (dk_at dksX5_bobber_4 2 rfl rfl)
theorem dX5_bobber_101 : decode cX5_bobber 101 = .ok (.putfield 229, 3) := dk_181 0 229 (dk_at dksX5_bobber_4 5 rfl rfl)
theorem dX5_bobber_104 : decode cX5_bobber 104 = .ok (.aload_n 0, 1) := dk_42 (dk_at dksX5_bobber_4 8 rfl rfl)
theorem dX5_bobber_105 : decode cX5_bobber 105 = .ok (.ldc 137, 2) := dk_18 137 (dk_at dksX5_bobber_4 9 rfl rfl)
theorem dX5_bobber_107 : decode cX5_bobber 107 = .ok (.invokevirtual 198, 3) := dk_182 0 198 (dk_at dksX5_bobber_4 11 rfl rfl)
theorem dX5_bobber_110 : decode cX5_bobber 110 = .ok (.ifCond .eq 47, 3) := dk_153 0 47 (dk_at dksX5_bobber_4 14 rfl rfl)
theorem dX5_bobber_113 : decode cX5_bobber 113 = .ok (.aload_n 0, 1) := dk_42 (dk_at dksX5_bobber_4 17 rfl rfl)
theorem dX5_bobber_114 : decode cX5_bobber 114 = .ok (.invokevirtual 157, 3) := dk_182 0 157 (dk_at dksX5_bobber_4 18 rfl rfl)
theorem dX5_bobber_117 : decode cX5_bobber 117 = .ok (.ifCond .ne 8, 3) := dk_154 0 8 (dk_at dksX5_bobber_4 21 rfl rfl)
theorem dX5_bobber_120 : decode cX5_bobber 120 = .ok (.aload_n 0, 1) := dk_42 (dk_at dksX5_bobber_5 0 rfl rfl)
theorem dX5_bobber_121 : decode cX5_bobber 121 = .ok (.invokevirtual 89, 3) := dk_182 0 89 (dk_at dksX5_bobber_5 1 rfl rfl)
theorem dX5_bobber_124 : decode cX5_bobber 124 = .ok (.athrow, 1) := dk_191 (dk_at dksX5_bobber_5 4 rfl rfl)
theorem dX5_bobber_125 : decode cX5_bobber 125 = .ok (.aload_n 1, 1) := dk_43 (dk_at dksX5_bobber_5 5 rfl rfl)
theorem dX5_bobber_126 : decode cX5_bobber 126 = .ok (.aload_n 0, 1) := dk_42 (dk_at dksX5_bobber_5 6 rfl rfl)
theorem dX5_bobber_127 : decode cX5_bobber 127 = .ok (.invokevirtual 161, 3) := dk_182 0 161 (dk_at dksX5_bobber_5 7 rfl rfl)
theorem dX5_bobber_130 : decode cX5_bobber 130 = .ok (.putfield 231, 3) := dk_181 0 231 (dk_at dksX5_bobber_5 10 rfl rfl)
theorem dX5_bobber_133 : decode cX5_bobber 133 = .ok (.aload_n 1, 1) := dk_43 (dk_at dksX5_bobber_5 13 rfl rfl)
theorem dX5_bobber_134 : decode cX5_bobber 134 = .ok (.getfield 231, 3) := dk_180 0 231 (dk_at dksX5_bobber_5 14 rfl rfl)
theorem dX5_bobber_137 : decode cX5_bobber 137 = .ok (.ifCond .ge 16, 3) := dk_156 0 16 (dk_at dksX5_bobber_5 17 rfl rfl)
theorem dX5_bobber_140 : decode cX5_bobber 140 = .ok (.new 84, 3) := dk_187 0 84 (dk_at dksX5_bobber_5 20 rfl rfl)
theorem dX5_bobber_143 : decode cX5_bobber 143 = .ok (.dup, 1) := dk_89 (dk_at dksX5_bobber_5 23 rfl rfl)
theorem dX5_bobber_144 : decode cX5_bobber 144 = .ok (.iconst 5, 1) := dk_8 (dk_at dksX5_bobber_6 0 rfl rfl)
theorem dX5_bobber_145 : decode cX5_bobber 145 = .ok (.aload_n 0, 1) := dk_42 (dk_at dksX5_bobber_6 1 rfl rfl)
theorem dX5_bobber_146 : decode cX5_bobber 146 = .ok (.getfield 29, 3) := dk_180 0 29 (dk_at dksX5_bobber_6 2 rfl rfl)
theorem dX5_bobber_149 : decode cX5_bobber 149 = .ok (.invokespecial 86, 3) := dk_183 0 86 (dk_at dksX5_bobber_6 5 rfl rfl)
theorem dX5_bobber_152 : decode cX5_bobber 152 = .ok (.athrow, 1) := dk_191 (dk_at dksX5_bobber_6 8 rfl rfl)
theorem dX5_bobber_153 : decode cX5_bobber 153 = .ok (.aload_n 0, 1) := dk_42 (dk_at dksX5_bobber_6 9 rfl rfl)
theorem dX5_bobber_154 : decode cX5_bobber 154 = .ok (.invokevirtual 93, 3) := dk_182 0 93 (dk_at dksX5_bobber_6 10 rfl rfl)
theorem dX5_bobber_157 : decode cX5_bobber 157 = .ok (.aload_n 0, 1) := dk_42 (dk_at dksX5_bobber_6 13 rfl rfl)
theorem dX5_bobber_158 : decode cX5_bobber 158 = .ok (.getfield 12, 3) := dk_180 0 12 (dk_at dksX5_bobber_6 14 rfl rfl)
theorem dX5_bobber_161 : decode cX5_bobber 161 = .ok (.getfield 124, 3) := dk_180 0 124 (dk_at dksX5_bobber_6 17 rfl rfl)
theorem dX5_bobber_164 : decode cX5_bobber 164 = .ok (.aload_n 1, 1) := dk_43 (dk_at dksX5_bobber_6 20 rfl rfl)
theorem dX5_bobber_165 : decode cX5_bobber 165 = .ok (.invokevirtual 171, 3) := dk_182 0 171 (dk_at dksX5_bobber_6 21 rfl rfl)
theorem dX5_bobber_168 : decode cX5_bobber 168 = .ok (.pop, 1) := dk_87 (dk_at dksX5_bobber_7 0 rfl rfl)
theorem dX5_bobber_169 : decode cX5_bobber 169 = .ok (.return_, 1) := dk_177 (dk_at dksX5_bobber_7 1 rfl rfl)
abbrev cX5_isBobber : ByteArray := prog_13_method_21_code
def yX5_isBobber : MethodName := ⟨RX5, "isBobber", "()Z"⟩
def dkwX5_isBobber_2 : List UInt8 := [167, 255, 212, 3, 172]
abbrev dktX5_isBobber_2 : List UInt8 := dkwX5_isBobber_2 ++ []
def dkwX5_isBobber_1 : List UInt8 := [182, 0, 111, 192, 0, 127, 180, 0, 129, 42, 180, 0, 55, 148, 154, 0, 5, 4, 172, 132, 1, 1]
abbrev dktX5_isBobber_1 : List UInt8 := dkwX5_isBobber_1 ++ dktX5_isBobber_2
def dkwX5_isBobber_0 : List UInt8 := [3, 60, 27, 42, 180, 0, 12, 180, 0, 124, 182, 0, 107, 162, 0, 36, 42, 180, 0, 12, 180, 0, 124, 27]
abbrev dktX5_isBobber_0 : List UInt8 := dkwX5_isBobber_0 ++ dktX5_isBobber_1
theorem dksX5_isBobber_0 : cX5_isBobber.data.toList.drop 0 = dktX5_isBobber_0 := by decide +kernel
theorem dksX5_isBobber_1 : cX5_isBobber.data.toList.drop 24 = dktX5_isBobber_1 := dk_seg dksX5_isBobber_0 24 rfl rfl
theorem dksX5_isBobber_2 : cX5_isBobber.data.toList.drop 46 = dktX5_isBobber_2 := dk_seg dksX5_isBobber_1 22 rfl rfl
theorem dX5_isBobber_0 : decode cX5_isBobber 0 = .ok (.iconst 0, 1) := dk_3 (dk_at dksX5_isBobber_0 0 rfl rfl)
theorem dX5_isBobber_1 : decode cX5_isBobber 1 = .ok (.istore_n 1, 1) := dk_60 (dk_at dksX5_isBobber_0 1 rfl rfl)
theorem dX5_isBobber_2 : decode cX5_isBobber 2 = .ok (.iload_n 1, 1) := dk_27 (dk_at dksX5_isBobber_0 2 rfl rfl)
theorem dX5_isBobber_3 : decode cX5_isBobber 3 = .ok (.aload_n 0, 1) := dk_42 (dk_at dksX5_isBobber_0 3 rfl rfl)
theorem dX5_isBobber_4 : decode cX5_isBobber 4 = .ok (.getfield 12, 3) := dk_180 0 12 (dk_at dksX5_isBobber_0 4 rfl rfl)
theorem dX5_isBobber_7 : decode cX5_isBobber 7 = .ok (.getfield 124, 3) := dk_180 0 124 (dk_at dksX5_isBobber_0 7 rfl rfl)
theorem dX5_isBobber_10 : decode cX5_isBobber 10 = .ok (.invokevirtual 107, 3) := dk_182 0 107 (dk_at dksX5_isBobber_0 10 rfl rfl)
theorem dX5_isBobber_13 : decode cX5_isBobber 13 = .ok (.if_icmp .ge 36, 3) := dk_162 0 36 (dk_at dksX5_isBobber_0 13 rfl rfl)
theorem dX5_isBobber_16 : decode cX5_isBobber 16 = .ok (.aload_n 0, 1) := dk_42 (dk_at dksX5_isBobber_0 16 rfl rfl)
theorem dX5_isBobber_17 : decode cX5_isBobber 17 = .ok (.getfield 12, 3) := dk_180 0 12 (dk_at dksX5_isBobber_0 17 rfl rfl)
theorem dX5_isBobber_20 : decode cX5_isBobber 20 = .ok (.getfield 124, 3) := dk_180 0 124 (dk_at dksX5_isBobber_0 20 rfl rfl)
theorem dX5_isBobber_23 : decode cX5_isBobber 23 = .ok (.iload_n 1, 1) := dk_27 (dk_at dksX5_isBobber_0 23 rfl rfl)
theorem dX5_isBobber_24 : decode cX5_isBobber 24 = .ok (.invokevirtual 111, 3) := dk_182 0 111 (dk_at dksX5_isBobber_1 0 rfl rfl)
theorem dX5_isBobber_27 : decode cX5_isBobber 27 = .ok (.checkcast 127, 3) := dk_192 0 127 (dk_at dksX5_isBobber_1 3 rfl rfl)
theorem dX5_isBobber_30 : decode cX5_isBobber 30 = .ok (.getfield 129, 3) := dk_180 0 129 (dk_at dksX5_isBobber_1 6 rfl rfl)
theorem dX5_isBobber_33 : decode cX5_isBobber 33 = .ok (.aload_n 0, 1) := dk_42 (dk_at dksX5_isBobber_1 9 rfl rfl)
theorem dX5_isBobber_34 : decode cX5_isBobber 34 = .ok (.getfield 55, 3) := dk_180 0 55 (dk_at dksX5_isBobber_1 10 rfl rfl)
theorem dX5_isBobber_37 : decode cX5_isBobber 37 = .ok (.lcmp, 1) := dk_148 (dk_at dksX5_isBobber_1 13 rfl rfl)
theorem dX5_isBobber_38 : decode cX5_isBobber 38 = .ok (.ifCond .ne 5, 3) := dk_154 0 5 (dk_at dksX5_isBobber_1 14 rfl rfl)
theorem dX5_isBobber_41 : decode cX5_isBobber 41 = .ok (.iconst 1, 1) := dk_4 (dk_at dksX5_isBobber_1 17 rfl rfl)
theorem dX5_isBobber_42 : decode cX5_isBobber 42 = .ok (.ireturn, 1) := dk_172 (dk_at dksX5_isBobber_1 18 rfl rfl)
theorem dX5_isBobber_43 : decode cX5_isBobber 43 = .ok (.iinc 1 1, 3) := dk_132 1 1 (dk_at dksX5_isBobber_1 19 rfl rfl)
theorem dX5_isBobber_46 : decode cX5_isBobber 46 = .ok (.goto (-44), 3) := dk_167 255 212 (dk_at dksX5_isBobber_2 0 rfl rfl)
theorem dX5_isBobber_49 : decode cX5_isBobber 49 = .ok (.iconst 0, 1) := dk_3 (dk_at dksX5_isBobber_2 3 rfl rfl)
theorem dX5_isBobber_50 : decode cX5_isBobber 50 = .ok (.ireturn, 1) := dk_172 (dk_at dksX5_isBobber_2 4 rfl rfl)
abbrev cX5_odds : ByteArray := prog_13_method_23_code
def yX5_odds : MethodName := ⟨RX5, "odds", "()V"⟩
def dkwX5_odds_1 : List UInt8 := [42, 182, 0, 89, 191, 42, 182, 0, 93, 42, 180, 0, 12, 180, 0, 149, 27, 42, 182, 0, 153, 83, 177]
abbrev dktX5_odds_1 : List UInt8 := dkwX5_odds_1 ++ []
def dkwX5_odds_0 : List UInt8 := [42, 178, 0, 146, 182, 0, 80, 60, 27, 155, 0, 15, 42, 180, 0, 12, 180, 0, 149, 27, 50, 198, 0, 8]
abbrev dktX5_odds_0 : List UInt8 := dkwX5_odds_0 ++ dktX5_odds_1
theorem dksX5_odds_0 : cX5_odds.data.toList.drop 0 = dktX5_odds_0 := by decide +kernel
theorem dksX5_odds_1 : cX5_odds.data.toList.drop 24 = dktX5_odds_1 := dk_seg dksX5_odds_0 24 rfl rfl
theorem dX5_odds_0 : decode cX5_odds 0 = .ok (.aload_n 0, 1) := dk_42 (dk_at dksX5_odds_0 0 rfl rfl)
theorem dX5_odds_1 : decode cX5_odds 1 = .ok (.getstatic 146, 3) := dk_178 0 146 (dk_at dksX5_odds_0 1 rfl rfl)
theorem dX5_odds_4 : decode cX5_odds 4 = .ok (.invokevirtual 80, 3) := dk_182 0 80 (dk_at dksX5_odds_0 4 rfl rfl)
theorem dX5_odds_7 : decode cX5_odds 7 = .ok (.istore_n 1, 1) := dk_60 (dk_at dksX5_odds_0 7 rfl rfl)
theorem dX5_odds_8 : decode cX5_odds 8 = .ok (.iload_n 1, 1) := dk_27 (dk_at dksX5_odds_0 8 rfl rfl)
theorem dX5_odds_9 : decode cX5_odds 9 = .ok (.ifCond .lt 15, 3) := dk_155 0 15 (dk_at dksX5_odds_0 9 rfl rfl)
theorem dX5_odds_12 : decode cX5_odds 12 = .ok (.aload_n 0, 1) := dk_42 (dk_at dksX5_odds_0 12 rfl rfl)
theorem dX5_odds_13 : decode cX5_odds 13 = .ok (.getfield 12, 3) := dk_180 0 12 (dk_at dksX5_odds_0 13 rfl rfl)
theorem dX5_odds_16 : decode cX5_odds 16 = .ok (.getfield 149, 3) := dk_180 0 149 (dk_at dksX5_odds_0 16 rfl rfl)
theorem dX5_odds_19 : decode cX5_odds 19 = .ok (.iload_n 1, 1) := dk_27 (dk_at dksX5_odds_0 19 rfl rfl)
theorem dX5_odds_20 : decode cX5_odds 20 = .ok (.aaload, 1) := dk_50 (dk_at dksX5_odds_0 20 rfl rfl)
theorem dX5_odds_21 : decode cX5_odds 21 = .ok (.ifnull 8, 3) := dk_198 0 8 (dk_at dksX5_odds_0 21 rfl rfl)
theorem dX5_odds_24 : decode cX5_odds 24 = .ok (.aload_n 0, 1) := dk_42 (dk_at dksX5_odds_1 0 rfl rfl)
theorem dX5_odds_25 : decode cX5_odds 25 = .ok (.invokevirtual 89, 3) := dk_182 0 89 (dk_at dksX5_odds_1 1 rfl rfl)
theorem dX5_odds_28 : decode cX5_odds 28 = .ok (.athrow, 1) := dk_191 (dk_at dksX5_odds_1 4 rfl rfl)
theorem dX5_odds_29 : decode cX5_odds 29 = .ok (.aload_n 0, 1) := dk_42 (dk_at dksX5_odds_1 5 rfl rfl)
theorem dX5_odds_30 : decode cX5_odds 30 = .ok (.invokevirtual 93, 3) := dk_182 0 93 (dk_at dksX5_odds_1 6 rfl rfl)
theorem dX5_odds_33 : decode cX5_odds 33 = .ok (.aload_n 0, 1) := dk_42 (dk_at dksX5_odds_1 9 rfl rfl)
theorem dX5_odds_34 : decode cX5_odds 34 = .ok (.getfield 12, 3) := dk_180 0 12 (dk_at dksX5_odds_1 10 rfl rfl)
theorem dX5_odds_37 : decode cX5_odds 37 = .ok (.getfield 149, 3) := dk_180 0 149 (dk_at dksX5_odds_1 13 rfl rfl)
theorem dX5_odds_40 : decode cX5_odds 40 = .ok (.iload_n 1, 1) := dk_27 (dk_at dksX5_odds_1 16 rfl rfl)
theorem dX5_odds_41 : decode cX5_odds 41 = .ok (.aload_n 0, 1) := dk_42 (dk_at dksX5_odds_1 17 rfl rfl)
theorem dX5_odds_42 : decode cX5_odds 42 = .ok (.invokevirtual 153, 3) := dk_182 0 153 (dk_at dksX5_odds_1 18 rfl rfl)
theorem dX5_odds_45 : decode cX5_odds 45 = .ok (.aastore, 1) := dk_83 (dk_at dksX5_odds_1 21 rfl rfl)
theorem dX5_odds_46 : decode cX5_odds 46 = .ok (.return_, 1) := dk_177 (dk_at dksX5_odds_1 22 rfl rfl)
theorem q153 : (Jvm.Cond.initialized "TubBites$Reader") ∈ lw_all := lw_g (lw_at lw_m1 9 rfl) rfl
theorem q232 : (Jvm.Cond.fieldLinkNest "TubBites$Reader" (134 : Nat) "TubBites$Water" "across" "I" "TubBites") ∈ lw_tbl := lw_at lw_m1 88 rfl
theorem q235 : (Jvm.Cond.fieldLinkNest "TubBites$Reader" (143 : Nat) "TubBites$Water" "up" "I" "TubBites") ∈ lw_tbl := lw_at lw_m1 91 rfl
theorem q238 : (Jvm.Cond.fieldLinkNest "TubBites$Reader" (317 : Nat) "TubBites$Water" "draw" "I" "TubBites") ∈ lw_tbl := lw_at lw_m1 94 rfl
theorem q241 : (Jvm.Cond.fieldLinkNest "TubBites$Reader" (283 : Nat) "TubBites$Water" "units" "I" "TubBites") ∈ lw_tbl := lw_at lw_m1 97 rfl
theorem q245 : (Jvm.Cond.fieldLinkNest "TubBites$Reader" (319 : Nat) "TubBites$Water" "bite" "I" "TubBites") ∈ lw_tbl := lw_at lw_m1 101 rfl
theorem q246 : (Jvm.Cond.fieldLinkNest "TubBites$Reader" (130 : Nat) "TubBites$Water" "isTold" "Z" "TubBites") ∈ lw_tbl := lw_at lw_m1 102 rfl
theorem q247 : (Jvm.Cond.fieldLinkNest "TubBites$Reader" (298 : Nat) "TubBites$Water" "isDraw" "Z" "TubBites") ∈ lw_tbl := lw_at lw_m1 103 rfl
theorem q248 : (Jvm.Cond.fieldLinkNest "TubBites$Reader" (303 : Nat) "TubBites$Water" "isBite" "Z" "TubBites") ∈ lw_tbl := lw_at lw_m1 104 rfl
theorem q250 : (Jvm.Cond.fieldLinkNest "TubBites$Reader" (149 : Nat) "TubBites$Water" "odds" "[LTubBites$Part;" "TubBites") ∈ lw_tbl := lw_at lw_m1 106 rfl
theorem q253 : (Jvm.Cond.fieldLinkNest "TubBites$Reader" (103 : Nat) "TubBites$Water" "rules" "Ljava/util/ArrayList;" "TubBites") ∈ lw_tbl := lw_at lw_m1 109 rfl
theorem q256 : (Jvm.Cond.fieldLinkNest "TubBites$Reader" (118 : Nat) "TubBites$Water" "apples" "Ljava/util/ArrayList;" "TubBites") ∈ lw_tbl := lw_at lw_m1 112 rfl
theorem q259 : (Jvm.Cond.fieldLinkNest "TubBites$Reader" (124 : Nat) "TubBites$Water" "bobbers" "Ljava/util/ArrayList;" "TubBites") ∈ lw_tbl := lw_at lw_m1 115 rfl
theorem q380 : (Jvm.Cond.instantiable "TubBites$Reader" (10 : Nat)) ∈ lw_all := lw_g (lw_at lw_m1 236 rfl) rfl
theorem q382 : (Jvm.Cond.instanceMethod ({ cls := "TubBites$Reader", name := "<init>", desc := "([BI)V" } : Jvm.MethodName)) ∈ lw_all := lw_g (lw_at lw_m1 238 rfl) rfl
theorem q383 : (Jvm.Cond.code ({ cls := "TubBites$Reader", name := "<init>", desc := "([BI)V" } : Jvm.MethodName) prog_13_method_1_code (3 : Nat) (Option.none : Option Jvm.ClassFile.FieldType)) ∈ lw_all := lw_g (lw_at lw_m1 239 rfl) rfl
theorem q384 : (Jvm.Cond.methodLink "TubBites$Reader" (3 : Nat) ({ cls := "java/lang/Object", name := "<init>", desc := "()V" } : Jvm.MethodName)) ∈ lw_all := lw_g (lw_at lw_m2 0 rfl) rfl
theorem q385 : (Jvm.Cond.classLink "TubBites$Reader" (9 : Nat) "TubBites$Water") ∈ lw_all := lw_g (lw_at lw_m2 1 rfl) rfl
theorem q386 : (Jvm.Cond.methodLinkNest "TubBites$Reader" (11 : Nat) ({ cls := "TubBites$Water", name := "<init>", desc := "()V" } : Jvm.MethodName) "TubBites") ∈ lw_tbl := lw_at lw_m2 2 rfl
theorem q387 : (Jvm.Cond.fieldLink "TubBites$Reader" (18 : Nat) "TubBites$Reader" "text" "[B") ∈ lw_all := lw_g (lw_at lw_m2 3 rfl) rfl
theorem q388 : (Jvm.Cond.fieldLink "TubBites$Reader" (22 : Nat) "TubBites$Reader" "size" "I") ∈ lw_all := lw_g (lw_at lw_m2 4 rfl) rfl
theorem q389 : (Jvm.Cond.fieldLink "TubBites$Reader" (12 : Nat) "TubBites$Reader" "w" "LTubBites$Water;") ∈ lw_all := lw_g (lw_at lw_m2 5 rfl) rfl
theorem q390 : (Jvm.Cond.fieldLink "TubBites$Reader" (29 : Nat) "TubBites$Reader" "at" "I") ∈ lw_all := lw_g (lw_at lw_m2 6 rfl) rfl
theorem q391 : (Jvm.Cond.fieldLink "TubBites$Reader" (26 : Nat) "TubBites$Reader" "end" "I") ∈ lw_all := lw_g (lw_at lw_m2 7 rfl) rfl
theorem q392 : (Jvm.Cond.fieldLink "TubBites$Reader" (36 : Nat) "TubBites$Reader" "token" "I") ∈ lw_all := lw_g (lw_at lw_m2 8 rfl) rfl
theorem q393 : (Jvm.Cond.fieldLink "TubBites$Reader" (59 : Nat) "TubBites$Reader" "number" "I") ∈ lw_all := lw_g (lw_at lw_m2 9 rfl) rfl
theorem q394 : (Jvm.Cond.fieldLink "TubBites$Reader" (55 : Nat) "TubBites$Reader" "name" "J") ∈ lw_all := lw_g (lw_at lw_m2 10 rfl) rfl
theorem q395 : (Jvm.Cond.fieldLink "TubBites$Reader" (237 : Nat) "TubBites$Reader" "deep" "I") ∈ lw_all := lw_g (lw_at lw_m2 11 rfl) rfl
theorem q396 : (Jvm.Cond.fieldLink "TubBites$Reader" (234 : Nat) "TubBites$Reader" "mine" "I") ∈ lw_all := lw_g (lw_at lw_m2 12 rfl) rfl
theorem q397 : (Jvm.Cond.laysFinal "TubBites$Reader" "TubBites$Reader" "text" "[B") ∈ lw_all := lw_g (lw_at lw_m2 13 rfl) rfl
theorem q398 : (Jvm.Cond.soleField "TubBites$Reader" "text") ∈ lw_all := lw_g (lw_at lw_m2 14 rfl) rfl
theorem q399 : (Jvm.Cond.laysFinal "TubBites$Reader" "TubBites$Reader" "size" "I") ∈ lw_all := lw_g (lw_at lw_m2 15 rfl) rfl
theorem q400 : (Jvm.Cond.soleField "TubBites$Reader" "size") ∈ lw_all := lw_g (lw_at lw_m2 16 rfl) rfl
theorem q401 : (Jvm.Cond.laysFinal "TubBites$Reader" "TubBites$Reader" "w" "LTubBites$Water;") ∈ lw_all := lw_g (lw_at lw_m2 17 rfl) rfl
theorem q402 : (Jvm.Cond.soleField "TubBites$Reader" "w") ∈ lw_all := lw_g (lw_at lw_m2 18 rfl) rfl
theorem q403 : (Jvm.Cond.lays "TubBites$Reader" "TubBites$Reader" "at" "I") ∈ lw_all := lw_g (lw_at lw_m2 19 rfl) rfl
theorem q404 : (Jvm.Cond.soleField "TubBites$Reader" "at") ∈ lw_all := lw_g (lw_at lw_m2 20 rfl) rfl
theorem q405 : (Jvm.Cond.lays "TubBites$Reader" "TubBites$Reader" "end" "I") ∈ lw_all := lw_g (lw_at lw_m2 21 rfl) rfl
theorem q406 : (Jvm.Cond.soleField "TubBites$Reader" "end") ∈ lw_all := lw_g (lw_at lw_m2 22 rfl) rfl
theorem q407 : (Jvm.Cond.lays "TubBites$Reader" "TubBites$Reader" "token" "I") ∈ lw_all := lw_g (lw_at lw_m2 23 rfl) rfl
theorem q408 : (Jvm.Cond.soleField "TubBites$Reader" "token") ∈ lw_all := lw_g (lw_at lw_m2 24 rfl) rfl
theorem q409 : (Jvm.Cond.lays "TubBites$Reader" "TubBites$Reader" "number" "I") ∈ lw_all := lw_g (lw_at lw_m2 25 rfl) rfl
theorem q410 : (Jvm.Cond.soleField "TubBites$Reader" "number") ∈ lw_all := lw_g (lw_at lw_m2 26 rfl) rfl
theorem q411 : (Jvm.Cond.lays "TubBites$Reader" "TubBites$Reader" "name" "J") ∈ lw_all := lw_g (lw_at lw_m2 27 rfl) rfl
theorem q412 : (Jvm.Cond.soleField "TubBites$Reader" "name") ∈ lw_all := lw_g (lw_at lw_m2 28 rfl) rfl
theorem q413 : (Jvm.Cond.lays "TubBites$Reader" "TubBites$Reader" "deep" "I") ∈ lw_all := lw_g (lw_at lw_m2 29 rfl) rfl
theorem q414 : (Jvm.Cond.soleField "TubBites$Reader" "deep") ∈ lw_all := lw_g (lw_at lw_m2 30 rfl) rfl
theorem q415 : (Jvm.Cond.lays "TubBites$Reader" "TubBites$Reader" "mine" "I") ∈ lw_all := lw_g (lw_at lw_m2 31 rfl) rfl
theorem q416 : (Jvm.Cond.soleField "TubBites$Reader" "mine") ∈ lw_all := lw_g (lw_at lw_m2 32 rfl) rfl
theorem q417 : (Jvm.Cond.superclass "TubBites$Reader" "java/lang/Object") ∈ lw_all := lw_g (lw_at lw_m2 33 rfl) rfl
theorem q419 : (Jvm.Cond.instanceMethod ({ cls := "TubBites$Reader", name := "read", desc := "()LTubBites$Water;" } : Jvm.MethodName)) ∈ lw_all := lw_g (lw_at lw_m2 35 rfl) rfl
theorem q420 : (Jvm.Cond.selects "TubBites$Reader" ({ cls := "TubBites$Reader", name := "read", desc := "()LTubBites$Water;" } : Jvm.MethodName) ({ cls := "TubBites$Reader", name := "read", desc := "()LTubBites$Water;" } : Jvm.MethodName)) ∈ lw_all := lw_g (lw_at lw_m2 36 rfl) rfl
theorem q421 : (Jvm.Cond.code ({ cls := "TubBites$Reader", name := "read", desc := "()LTubBites$Water;" } : Jvm.MethodName) prog_13_method_37_code (1 : Nat) (Option.some (Jvm.ClassFile.FieldType.object "TubBites$Water"))) ∈ lw_all := lw_g (lw_at lw_m2 37 rfl) rfl
theorem q422 : (Jvm.Cond.methodLink "TubBites$Reader" (93 : Nat) ({ cls := "TubBites$Reader", name := "next", desc := "()V" } : Jvm.MethodName)) ∈ lw_all := lw_g (lw_at lw_m2 38 rfl) rfl
theorem q423 : (Jvm.Cond.privateMethod ({ cls := "TubBites$Reader", name := "next", desc := "()V" } : Jvm.MethodName)) ∈ lw_tbl := lw_at lw_m2 39 rfl
theorem q424 : (Jvm.Cond.instanceMethod ({ cls := "TubBites$Reader", name := "next", desc := "()V" } : Jvm.MethodName)) ∈ lw_all := lw_g (lw_at lw_m2 40 rfl) rfl
theorem q425 : (Jvm.Cond.code ({ cls := "TubBites$Reader", name := "next", desc := "()V" } : Jvm.MethodName) prog_13_method_6_code (2 : Nat) (Option.none : Option Jvm.ClassFile.FieldType)) ∈ lw_all := lw_g (lw_at lw_m2 41 rfl) rfl
theorem q426 : (Jvm.Cond.methodLink "TubBites$Reader" (32 : Nat) ({ cls := "TubBites$Reader", name := "sign", desc := "(I)I" } : Jvm.MethodName)) ∈ lw_all := lw_g (lw_at lw_m2 42 rfl) rfl
theorem q427 : (Jvm.Cond.privateMethod ({ cls := "TubBites$Reader", name := "sign", desc := "(I)I" } : Jvm.MethodName)) ∈ lw_tbl := lw_at lw_m2 43 rfl
theorem q428 : (Jvm.Cond.instanceMethod ({ cls := "TubBites$Reader", name := "sign", desc := "(I)I" } : Jvm.MethodName)) ∈ lw_all := lw_g (lw_at lw_m2 44 rfl) rfl
theorem q429 : (Jvm.Cond.code ({ cls := "TubBites$Reader", name := "sign", desc := "(I)I" } : Jvm.MethodName) prog_13_method_2_code (2 : Nat) (Option.some Jvm.ClassFile.FieldType.int)) ∈ lw_all := lw_g (lw_at lw_m2 45 rfl) rfl
theorem q430 : (Jvm.Cond.methodLink "TubBites$Reader" (39 : Nat) ({ cls := "TubBites$Reader", name := "isLetter", desc := "(I)Z" } : Jvm.MethodName)) ∈ lw_all := lw_g (lw_at lw_m2 46 rfl) rfl
theorem q431 : (Jvm.Cond.static ({ cls := "TubBites$Reader", name := "isLetter", desc := "(I)Z" } : Jvm.MethodName)) ∈ lw_all := lw_g (lw_at lw_m2 47 rfl) rfl
theorem q432 : (Jvm.Cond.code ({ cls := "TubBites$Reader", name := "isLetter", desc := "(I)Z" } : Jvm.MethodName) prog_13_method_3_code (1 : Nat) (Option.some Jvm.ClassFile.FieldType.boolean)) ∈ lw_all := lw_g (lw_at lw_m2 48 rfl) rfl
theorem q433 : (Jvm.Cond.methodLink "TubBites$Reader" (43 : Nat) ({ cls := "TubBites$Reader", name := "readWord", desc := "()V" } : Jvm.MethodName)) ∈ lw_all := lw_g (lw_at lw_m2 49 rfl) rfl
theorem q434 : (Jvm.Cond.privateMethod ({ cls := "TubBites$Reader", name := "readWord", desc := "()V" } : Jvm.MethodName)) ∈ lw_tbl := lw_at lw_m2 50 rfl
theorem q435 : (Jvm.Cond.instanceMethod ({ cls := "TubBites$Reader", name := "readWord", desc := "()V" } : Jvm.MethodName)) ∈ lw_all := lw_g (lw_at lw_m2 51 rfl) rfl
theorem q436 : (Jvm.Cond.code ({ cls := "TubBites$Reader", name := "readWord", desc := "()V" } : Jvm.MethodName) prog_13_method_7_code (1 : Nat) (Option.none : Option Jvm.ClassFile.FieldType)) ∈ lw_all := lw_g (lw_at lw_m2 52 rfl) rfl
theorem q437 : (Jvm.Cond.methodLink "TubBites$Reader" (46 : Nat) ({ cls := "TubBites$Reader", name := "isDigit", desc := "(I)Z" } : Jvm.MethodName)) ∈ lw_all := lw_g (lw_at lw_m2 53 rfl) rfl
theorem q438 : (Jvm.Cond.static ({ cls := "TubBites$Reader", name := "isDigit", desc := "(I)Z" } : Jvm.MethodName)) ∈ lw_all := lw_g (lw_at lw_m2 54 rfl) rfl
theorem q439 : (Jvm.Cond.code ({ cls := "TubBites$Reader", name := "isDigit", desc := "(I)Z" } : Jvm.MethodName) prog_13_method_4_code (1 : Nat) (Option.some Jvm.ClassFile.FieldType.boolean)) ∈ lw_all := lw_g (lw_at lw_m2 55 rfl) rfl
theorem q440 : (Jvm.Cond.methodLink "TubBites$Reader" (49 : Nat) ({ cls := "TubBites$Reader", name := "readNumber", desc := "()V" } : Jvm.MethodName)) ∈ lw_all := lw_g (lw_at lw_m2 56 rfl) rfl
theorem q441 : (Jvm.Cond.privateMethod ({ cls := "TubBites$Reader", name := "readNumber", desc := "()V" } : Jvm.MethodName)) ∈ lw_tbl := lw_at lw_m2 57 rfl
theorem q442 : (Jvm.Cond.instanceMethod ({ cls := "TubBites$Reader", name := "readNumber", desc := "()V" } : Jvm.MethodName)) ∈ lw_all := lw_g (lw_at lw_m2 58 rfl) rfl
theorem q443 : (Jvm.Cond.code ({ cls := "TubBites$Reader", name := "readNumber", desc := "()V" } : Jvm.MethodName) prog_13_method_8_code (1 : Nat) (Option.none : Option Jvm.ClassFile.FieldType)) ∈ lw_all := lw_g (lw_at lw_m2 59 rfl) rfl
theorem q444 : (Jvm.Cond.methodLink "TubBites$Reader" (52 : Nat) ({ cls := "TubBites$Reader", name := "isSign", desc := "(I)Z" } : Jvm.MethodName)) ∈ lw_all := lw_g (lw_at lw_m2 60 rfl) rfl
theorem q445 : (Jvm.Cond.static ({ cls := "TubBites$Reader", name := "isSign", desc := "(I)Z" } : Jvm.MethodName)) ∈ lw_all := lw_g (lw_at lw_m2 61 rfl) rfl
theorem q446 : (Jvm.Cond.code ({ cls := "TubBites$Reader", name := "isSign", desc := "(I)Z" } : Jvm.MethodName) prog_13_method_5_code (1 : Nat) (Option.some Jvm.ClassFile.FieldType.boolean)) ∈ lw_all := lw_g (lw_at lw_m2 62 rfl) rfl
theorem q447 : (Jvm.Cond.methodLink "TubBites$Reader" (329 : Nat) ({ cls := "TubBites$Reader", name := "line", desc := "()V" } : Jvm.MethodName)) ∈ lw_all := lw_g (lw_at lw_m2 63 rfl) rfl
theorem q448 : (Jvm.Cond.privateMethod ({ cls := "TubBites$Reader", name := "line", desc := "()V" } : Jvm.MethodName)) ∈ lw_tbl := lw_at lw_m2 64 rfl
theorem q449 : (Jvm.Cond.instanceMethod ({ cls := "TubBites$Reader", name := "line", desc := "()V" } : Jvm.MethodName)) ∈ lw_all := lw_g (lw_at lw_m2 65 rfl) rfl
theorem q450 : (Jvm.Cond.code ({ cls := "TubBites$Reader", name := "line", desc := "()V" } : Jvm.MethodName) prog_13_method_36_code (1 : Nat) (Option.none : Option Jvm.ClassFile.FieldType)) ∈ lw_all := lw_g (lw_at lw_m2 66 rfl) rfl
theorem q451 : (Jvm.Cond.methodLink "TubBites$Reader" (312 : Nat) ({ cls := "TubBites$Reader", name := "canLine", desc := "()Z" } : Jvm.MethodName)) ∈ lw_all := lw_g (lw_at lw_m2 67 rfl) rfl
theorem q452 : (Jvm.Cond.privateMethod ({ cls := "TubBites$Reader", name := "canLine", desc := "()Z" } : Jvm.MethodName)) ∈ lw_tbl := lw_at lw_m2 68 rfl
theorem q453 : (Jvm.Cond.instanceMethod ({ cls := "TubBites$Reader", name := "canLine", desc := "()Z" } : Jvm.MethodName)) ∈ lw_all := lw_g (lw_at lw_m2 69 rfl) rfl
theorem q454 : (Jvm.Cond.code ({ cls := "TubBites$Reader", name := "canLine", desc := "()Z" } : Jvm.MethodName) prog_13_method_35_code (1 : Nat) (Option.some Jvm.ClassFile.FieldType.boolean)) ∈ lw_all := lw_g (lw_at lw_m2 70 rfl) rfl
theorem q455 : (Jvm.Cond.stringRef "TubBites$Reader" (294 : Nat) "tub") ∈ lw_tbl := lw_at lw_m2 71 rfl
theorem q456 : (Jvm.Cond.methodLink "TubBites$Reader" (72 : Nat) ({ cls := "TubBites$Reader", name := "isWord", desc := "(Ljava/lang/String;)Z" } : Jvm.MethodName)) ∈ lw_all := lw_g (lw_at lw_m2 72 rfl) rfl
theorem q457 : (Jvm.Cond.privateMethod ({ cls := "TubBites$Reader", name := "isWord", desc := "(Ljava/lang/String;)Z" } : Jvm.MethodName)) ∈ lw_tbl := lw_at lw_m2 73 rfl
theorem q458 : (Jvm.Cond.instanceMethod ({ cls := "TubBites$Reader", name := "isWord", desc := "(Ljava/lang/String;)Z" } : Jvm.MethodName)) ∈ lw_all := lw_g (lw_at lw_m2 74 rfl) rfl
theorem q459 : (Jvm.Cond.code ({ cls := "TubBites$Reader", name := "isWord", desc := "(Ljava/lang/String;)Z" } : Jvm.MethodName) prog_13_method_9_code (3 : Nat) (Option.some Jvm.ClassFile.FieldType.boolean)) ∈ lw_all := lw_g (lw_at lw_m2 75 rfl) rfl
theorem q460 : (Jvm.Cond.methodLink "TubBites$Reader" (62 : Nat) ({ cls := "java/lang/String", name := "length", desc := "()I" } : Jvm.MethodName)) ∈ lw_all := lw_g (lw_at lw_m2 76 rfl) rfl
theorem q470 : (Jvm.Cond.methodLink "TubBites$Reader" (68 : Nat) ({ cls := "java/lang/String", name := "charAt", desc := "(I)C" } : Jvm.MethodName)) ∈ lw_all := lw_g (lw_at lw_m2 86 rfl) rfl
theorem q508 : (Jvm.Cond.stringRef "TubBites$Reader" (296 : Nat) "draw") ∈ lw_tbl := lw_at lw_m2 124 rfl
theorem q509 : (Jvm.Cond.stringRef "TubBites$Reader" (301 : Nat) "bite") ∈ lw_tbl := lw_at lw_m2 125 rfl
theorem q510 : (Jvm.Cond.stringRef "TubBites$Reader" (306 : Nat) "rule") ∈ lw_tbl := lw_at lw_m2 126 rfl
theorem q511 : (Jvm.Cond.methodLink "TubBites$Reader" (107 : Nat) ({ cls := "java/util/ArrayList", name := "size", desc := "()I" } : Jvm.MethodName)) ∈ lw_all := lw_g (lw_at lw_m2 127 rfl) rfl
theorem q515 : (Jvm.Cond.stringRef "TubBites$Reader" (307 : Nat) "apple") ∈ lw_tbl := lw_at lw_m2 131 rfl
theorem q516 : (Jvm.Cond.stringRef "TubBites$Reader" (309 : Nat) "bobber") ∈ lw_tbl := lw_at lw_m2 132 rfl
theorem q517 : (Jvm.Cond.stringRef "TubBites$Reader" (311 : Nat) "odds") ∈ lw_tbl := lw_at lw_m2 133 rfl
theorem q518 : (Jvm.Cond.methodLink "TubBites$Reader" (89 : Nat) ({ cls := "TubBites$Reader", name := "wrong", desc := "()LTubBites$Wrong;" } : Jvm.MethodName)) ∈ lw_all := lw_g (lw_at lw_m2 134 rfl) rfl
theorem q519 : (Jvm.Cond.privateMethod ({ cls := "TubBites$Reader", name := "wrong", desc := "()LTubBites$Wrong;" } : Jvm.MethodName)) ∈ lw_tbl := lw_at lw_m2 135 rfl
theorem q520 : (Jvm.Cond.instanceMethod ({ cls := "TubBites$Reader", name := "wrong", desc := "()LTubBites$Wrong;" } : Jvm.MethodName)) ∈ lw_all := lw_g (lw_at lw_m2 136 rfl) rfl
theorem q521 : (Jvm.Cond.code ({ cls := "TubBites$Reader", name := "wrong", desc := "()LTubBites$Wrong;" } : Jvm.MethodName) prog_13_method_13_code (1 : Nat) (Option.some (Jvm.ClassFile.FieldType.object "TubBites$Wrong"))) ∈ lw_all := lw_g (lw_at lw_m2 137 rfl) rfl
theorem q522 : (Jvm.Cond.classLink "TubBites$Reader" (84 : Nat) "TubBites$Wrong") ∈ lw_all := lw_g (lw_at lw_m2 138 rfl) rfl
theorem q559 : (Jvm.Cond.methodLink "TubBites$Reader" (86 : Nat) ({ cls := "TubBites$Wrong", name := "<init>", desc := "(II)V" } : Jvm.MethodName)) ∈ lw_all := lw_g (lw_at lw_m2 175 rfl) rfl
theorem q586 : (Jvm.Cond.methodLink "TubBites$Reader" (198 : Nat) ({ cls := "TubBites$Reader", name := "has", desc := "(Ljava/lang/String;)Z" } : Jvm.MethodName)) ∈ lw_all := lw_g (lw_at lw_m2 202 rfl) rfl
theorem q587 : (Jvm.Cond.privateMethod ({ cls := "TubBites$Reader", name := "has", desc := "(Ljava/lang/String;)Z" } : Jvm.MethodName)) ∈ lw_tbl := lw_at lw_m2 203 rfl
theorem q588 : (Jvm.Cond.instanceMethod ({ cls := "TubBites$Reader", name := "has", desc := "(Ljava/lang/String;)Z" } : Jvm.MethodName)) ∈ lw_all := lw_g (lw_at lw_m2 204 rfl) rfl
theorem q589 : (Jvm.Cond.code ({ cls := "TubBites$Reader", name := "has", desc := "(Ljava/lang/String;)Z" } : Jvm.MethodName) prog_13_method_17_code (3 : Nat) (Option.some Jvm.ClassFile.FieldType.boolean)) ∈ lw_all := lw_g (lw_at lw_m2 205 rfl) rfl
theorem q590 : (Jvm.Cond.methodLink "TubBites$Reader" (315 : Nat) ({ cls := "TubBites$Reader", name := "tub", desc := "()V" } : Jvm.MethodName)) ∈ lw_all := lw_g (lw_at lw_m2 206 rfl) rfl
theorem q591 : (Jvm.Cond.privateMethod ({ cls := "TubBites$Reader", name := "tub", desc := "()V" } : Jvm.MethodName)) ∈ lw_tbl := lw_at lw_m2 207 rfl
theorem q592 : (Jvm.Cond.instanceMethod ({ cls := "TubBites$Reader", name := "tub", desc := "()V" } : Jvm.MethodName)) ∈ lw_all := lw_g (lw_at lw_m2 208 rfl) rfl
theorem q593 : (Jvm.Cond.code ({ cls := "TubBites$Reader", name := "tub", desc := "()V" } : Jvm.MethodName) prog_13_method_22_code (1 : Nat) (Option.none : Option Jvm.ClassFile.FieldType)) ∈ lw_all := lw_g (lw_at lw_m2 209 rfl) rfl
theorem q594 : (Jvm.Cond.methodLink "TubBites$Reader" (100 : Nat) ({ cls := "TubBites$Reader", name := "number", desc := "(II)I" } : Jvm.MethodName)) ∈ lw_all := lw_g (lw_at lw_m2 210 rfl) rfl
theorem q595 : (Jvm.Cond.privateMethod ({ cls := "TubBites$Reader", name := "number", desc := "(II)I" } : Jvm.MethodName)) ∈ lw_tbl := lw_at lw_m2 211 rfl
theorem q596 : (Jvm.Cond.instanceMethod ({ cls := "TubBites$Reader", name := "number", desc := "(II)I" } : Jvm.MethodName)) ∈ lw_all := lw_g (lw_at lw_m2 212 rfl) rfl
theorem q597 : (Jvm.Cond.code ({ cls := "TubBites$Reader", name := "number", desc := "(II)I" } : Jvm.MethodName) prog_13_method_15_code (4 : Nat) (Option.some Jvm.ClassFile.FieldType.int)) ∈ lw_all := lw_g (lw_at lw_m2 213 rfl) rfl
theorem q598 : (Jvm.Cond.stringRef "TubBites$Reader" (137 : Nat) "by") ∈ lw_tbl := lw_at lw_m2 214 rfl
theorem q599 : (Jvm.Cond.methodLink "TubBites$Reader" (139 : Nat) ({ cls := "TubBites$Reader", name := "after", desc := "(Ljava/lang/String;II)I" } : Jvm.MethodName)) ∈ lw_all := lw_g (lw_at lw_m2 215 rfl) rfl
theorem q600 : (Jvm.Cond.privateMethod ({ cls := "TubBites$Reader", name := "after", desc := "(Ljava/lang/String;II)I" } : Jvm.MethodName)) ∈ lw_tbl := lw_at lw_m2 216 rfl
theorem q601 : (Jvm.Cond.instanceMethod ({ cls := "TubBites$Reader", name := "after", desc := "(Ljava/lang/String;II)I" } : Jvm.MethodName)) ∈ lw_all := lw_g (lw_at lw_m2 217 rfl) rfl
theorem q602 : (Jvm.Cond.code ({ cls := "TubBites$Reader", name := "after", desc := "(Ljava/lang/String;II)I" } : Jvm.MethodName) prog_13_method_16_code (4 : Nat) (Option.some Jvm.ClassFile.FieldType.int)) ∈ lw_all := lw_g (lw_at lw_m2 218 rfl) rfl
theorem q603 : (Jvm.Cond.methodLink "TubBites$Reader" (96 : Nat) ({ cls := "TubBites$Reader", name := "must", desc := "(Z)V" } : Jvm.MethodName)) ∈ lw_all := lw_g (lw_at lw_m2 219 rfl) rfl
theorem q604 : (Jvm.Cond.privateMethod ({ cls := "TubBites$Reader", name := "must", desc := "(Z)V" } : Jvm.MethodName)) ∈ lw_tbl := lw_at lw_m2 220 rfl
theorem q605 : (Jvm.Cond.instanceMethod ({ cls := "TubBites$Reader", name := "must", desc := "(Z)V" } : Jvm.MethodName)) ∈ lw_all := lw_g (lw_at lw_m2 221 rfl) rfl
theorem q606 : (Jvm.Cond.code ({ cls := "TubBites$Reader", name := "must", desc := "(Z)V" } : Jvm.MethodName) prog_13_method_14_code (2 : Nat) (Option.none : Option Jvm.ClassFile.FieldType)) ∈ lw_all := lw_g (lw_at lw_m2 222 rfl) rfl
theorem q607 : (Jvm.Cond.methodLink "TubBites$Reader" (321 : Nat) ({ cls := "TubBites$Reader", name := "rule", desc := "()V" } : Jvm.MethodName)) ∈ lw_all := lw_g (lw_at lw_m2 223 rfl) rfl
theorem q608 : (Jvm.Cond.privateMethod ({ cls := "TubBites$Reader", name := "rule", desc := "()V" } : Jvm.MethodName)) ∈ lw_tbl := lw_at lw_m2 224 rfl
theorem q609 : (Jvm.Cond.instanceMethod ({ cls := "TubBites$Reader", name := "rule", desc := "()V" } : Jvm.MethodName)) ∈ lw_all := lw_g (lw_at lw_m2 225 rfl) rfl
theorem q610 : (Jvm.Cond.code ({ cls := "TubBites$Reader", name := "rule", desc := "()V" } : Jvm.MethodName) prog_13_method_24_code (3 : Nat) (Option.none : Option Jvm.ClassFile.FieldType)) ∈ lw_all := lw_g (lw_at lw_m2 226 rfl) rfl
theorem q611 : (Jvm.Cond.methodLink "TubBites$Reader" (157 : Nat) ({ cls := "TubBites$Reader", name := "isName", desc := "()Z" } : Jvm.MethodName)) ∈ lw_all := lw_g (lw_at lw_m2 227 rfl) rfl
theorem q612 : (Jvm.Cond.privateMethod ({ cls := "TubBites$Reader", name := "isName", desc := "()Z" } : Jvm.MethodName)) ∈ lw_tbl := lw_at lw_m2 228 rfl
theorem q613 : (Jvm.Cond.instanceMethod ({ cls := "TubBites$Reader", name := "isName", desc := "()Z" } : Jvm.MethodName)) ∈ lw_all := lw_g (lw_at lw_m2 229 rfl) rfl
theorem q614 : (Jvm.Cond.code ({ cls := "TubBites$Reader", name := "isName", desc := "()Z" } : Jvm.MethodName) prog_13_method_12_code (1 : Nat) (Option.some Jvm.ClassFile.FieldType.boolean)) ∈ lw_all := lw_g (lw_at lw_m2 230 rfl) rfl
theorem q615 : (Jvm.Cond.fieldLink "TubBites$Reader" (76 : Nat) "TubBites$Reader" "KEPT" "[Ljava/lang/String;") ∈ lw_all := lw_g (lw_at lw_m2 231 rfl) rfl
theorem q616 : (Jvm.Cond.laysStatic "TubBites$Reader" "KEPT" "[Ljava/lang/String;") ∈ lw_tbl := lw_at lw_m2 232 rfl
theorem q617 : (Jvm.Cond.methodLink "TubBites$Reader" (80 : Nat) ({ cls := "TubBites$Reader", name := "which", desc := "([Ljava/lang/String;)I" } : Jvm.MethodName)) ∈ lw_all := lw_g (lw_at lw_m2 233 rfl) rfl
theorem q618 : (Jvm.Cond.privateMethod ({ cls := "TubBites$Reader", name := "which", desc := "([Ljava/lang/String;)I" } : Jvm.MethodName)) ∈ lw_tbl := lw_at lw_m2 234 rfl
theorem q619 : (Jvm.Cond.instanceMethod ({ cls := "TubBites$Reader", name := "which", desc := "([Ljava/lang/String;)I" } : Jvm.MethodName)) ∈ lw_all := lw_g (lw_at lw_m2 235 rfl) rfl
theorem q620 : (Jvm.Cond.code ({ cls := "TubBites$Reader", name := "which", desc := "([Ljava/lang/String;)I" } : Jvm.MethodName) prog_13_method_10_code (3 : Nat) (Option.some Jvm.ClassFile.FieldType.int)) ∈ lw_all := lw_g (lw_at lw_m2 236 rfl) rfl
theorem q621 : (Jvm.Cond.methodLink "TubBites$Reader" (161 : Nat) ({ cls := "TubBites$Reader", name := "ruleHere", desc := "()I" } : Jvm.MethodName)) ∈ lw_all := lw_g (lw_at lw_m2 237 rfl) rfl
theorem q622 : (Jvm.Cond.privateMethod ({ cls := "TubBites$Reader", name := "ruleHere", desc := "()I" } : Jvm.MethodName)) ∈ lw_tbl := lw_at lw_m2 238 rfl
theorem q623 : (Jvm.Cond.instanceMethod ({ cls := "TubBites$Reader", name := "ruleHere", desc := "()I" } : Jvm.MethodName)) ∈ lw_all := lw_g (lw_at lw_m2 239 rfl) rfl
theorem q624 : (Jvm.Cond.code ({ cls := "TubBites$Reader", name := "ruleHere", desc := "()I" } : Jvm.MethodName) prog_13_method_19_code (2 : Nat) (Option.some Jvm.ClassFile.FieldType.int)) ∈ lw_all := lw_g (lw_at lw_m3 0 rfl) rfl
theorem q625 : (Jvm.Cond.methodLink "TubBites$Reader" (111 : Nat) ({ cls := "java/util/ArrayList", name := "get", desc := "(I)Ljava/lang/Object;" } : Jvm.MethodName)) ∈ lw_all := lw_g (lw_at lw_m3 1 rfl) rfl
theorem q637 : (Jvm.Cond.classLink "TubBites$Reader" (115 : Nat) "TubBites$Rule") ∈ lw_all := lw_g (lw_at lw_m3 13 rfl) rfl
theorem q638 : (Jvm.Cond.methodLink "TubBites$Reader" (164 : Nat) ({ cls := "TubBites$Reader", name := "fresh", desc := "(Z)J" } : Jvm.MethodName)) ∈ lw_all := lw_g (lw_at lw_m3 14 rfl) rfl
theorem q639 : (Jvm.Cond.privateMethod ({ cls := "TubBites$Reader", name := "fresh", desc := "(Z)J" } : Jvm.MethodName)) ∈ lw_tbl := lw_at lw_m3 15 rfl
theorem q640 : (Jvm.Cond.instanceMethod ({ cls := "TubBites$Reader", name := "fresh", desc := "(Z)J" } : Jvm.MethodName)) ∈ lw_all := lw_g (lw_at lw_m3 16 rfl) rfl
theorem q641 : (Jvm.Cond.code ({ cls := "TubBites$Reader", name := "fresh", desc := "(Z)J" } : Jvm.MethodName) prog_13_method_18_code (4 : Nat) (Option.some Jvm.ClassFile.FieldType.long)) ∈ lw_all := lw_g (lw_at lw_m3 17 rfl) rfl
theorem q643 : (Jvm.Cond.methodLink "TubBites$Reader" (153 : Nat) ({ cls := "TubBites$Reader", name := "formula", desc := "()LTubBites$Part;" } : Jvm.MethodName)) ∈ lw_all := lw_g (lw_at lw_m3 19 rfl) rfl
theorem q644 : (Jvm.Cond.privateMethod ({ cls := "TubBites$Reader", name := "formula", desc := "()LTubBites$Part;" } : Jvm.MethodName)) ∈ lw_tbl := lw_at lw_m3 20 rfl
theorem q645 : (Jvm.Cond.instanceMethod ({ cls := "TubBites$Reader", name := "formula", desc := "()LTubBites$Part;" } : Jvm.MethodName)) ∈ lw_all := lw_g (lw_at lw_m3 21 rfl) rfl
theorem q646 : (Jvm.Cond.code ({ cls := "TubBites$Reader", name := "formula", desc := "()LTubBites$Part;" } : Jvm.MethodName) prog_13_method_27_code (1 : Nat) (Option.some (Jvm.ClassFile.FieldType.object "TubBites$Part"))) ∈ lw_all := lw_g (lw_at lw_m3 22 rfl) rfl
theorem q647 : (Jvm.Cond.methodLink "TubBites$Reader" (240 : Nat) ({ cls := "TubBites$Reader", name := "either", desc := "()LTubBites$Part;" } : Jvm.MethodName)) ∈ lw_all := lw_g (lw_at lw_m3 23 rfl) rfl
theorem q648 : (Jvm.Cond.privateMethod ({ cls := "TubBites$Reader", name := "either", desc := "()LTubBites$Part;" } : Jvm.MethodName)) ∈ lw_tbl := lw_at lw_m3 24 rfl
theorem q649 : (Jvm.Cond.instanceMethod ({ cls := "TubBites$Reader", name := "either", desc := "()LTubBites$Part;" } : Jvm.MethodName)) ∈ lw_all := lw_g (lw_at lw_m3 25 rfl) rfl
theorem q650 : (Jvm.Cond.code ({ cls := "TubBites$Reader", name := "either", desc := "()LTubBites$Part;" } : Jvm.MethodName) prog_13_method_28_code (2 : Nat) (Option.some (Jvm.ClassFile.FieldType.object "TubBites$Part"))) ∈ lw_all := lw_g (lw_at lw_m3 26 rfl) rfl
theorem q651 : (Jvm.Cond.methodLink "TubBites$Reader" (243 : Nat) ({ cls := "TubBites$Reader", name := "both", desc := "()LTubBites$Part;" } : Jvm.MethodName)) ∈ lw_all := lw_g (lw_at lw_m3 27 rfl) rfl
theorem q652 : (Jvm.Cond.privateMethod ({ cls := "TubBites$Reader", name := "both", desc := "()LTubBites$Part;" } : Jvm.MethodName)) ∈ lw_tbl := lw_at lw_m3 28 rfl
theorem q653 : (Jvm.Cond.instanceMethod ({ cls := "TubBites$Reader", name := "both", desc := "()LTubBites$Part;" } : Jvm.MethodName)) ∈ lw_all := lw_g (lw_at lw_m3 29 rfl) rfl
theorem q654 : (Jvm.Cond.code ({ cls := "TubBites$Reader", name := "both", desc := "()LTubBites$Part;" } : Jvm.MethodName) prog_13_method_29_code (2 : Nat) (Option.some (Jvm.ClassFile.FieldType.object "TubBites$Part"))) ∈ lw_all := lw_g (lw_at lw_m3 30 rfl) rfl
theorem q655 : (Jvm.Cond.methodLink "TubBites$Reader" (253 : Nat) ({ cls := "TubBites$Reader", name := "one", desc := "()LTubBites$Part;" } : Jvm.MethodName)) ∈ lw_all := lw_g (lw_at lw_m3 31 rfl) rfl
theorem q656 : (Jvm.Cond.privateMethod ({ cls := "TubBites$Reader", name := "one", desc := "()LTubBites$Part;" } : Jvm.MethodName)) ∈ lw_tbl := lw_at lw_m3 32 rfl
theorem q657 : (Jvm.Cond.instanceMethod ({ cls := "TubBites$Reader", name := "one", desc := "()LTubBites$Part;" } : Jvm.MethodName)) ∈ lw_all := lw_g (lw_at lw_m3 33 rfl) rfl
theorem q658 : (Jvm.Cond.code ({ cls := "TubBites$Reader", name := "one", desc := "()LTubBites$Part;" } : Jvm.MethodName) prog_13_method_31_code (3 : Nat) (Option.some (Jvm.ClassFile.FieldType.object "TubBites$Part"))) ∈ lw_all := lw_g (lw_at lw_m3 34 rfl) rfl
theorem q659 : (Jvm.Cond.stringRef "TubBites$Reader" (258 : Nat) "not") ∈ lw_tbl := lw_at lw_m3 35 rfl
theorem q660 : (Jvm.Cond.methodLink "TubBites$Reader" (260 : Nat) ({ cls := "TubBites$Reader", name := "open", desc := "()V" } : Jvm.MethodName)) ∈ lw_all := lw_g (lw_at lw_m3 36 rfl) rfl
theorem q661 : (Jvm.Cond.privateMethod ({ cls := "TubBites$Reader", name := "open", desc := "()V" } : Jvm.MethodName)) ∈ lw_tbl := lw_at lw_m3 37 rfl
theorem q662 : (Jvm.Cond.instanceMethod ({ cls := "TubBites$Reader", name := "open", desc := "()V" } : Jvm.MethodName)) ∈ lw_all := lw_g (lw_at lw_m3 38 rfl) rfl
theorem q663 : (Jvm.Cond.code ({ cls := "TubBites$Reader", name := "open", desc := "()V" } : Jvm.MethodName) prog_13_method_30_code (1 : Nat) (Option.none : Option Jvm.ClassFile.FieldType)) ∈ lw_all := lw_g (lw_at lw_m3 39 rfl) rfl
theorem q664 : (Jvm.Cond.classLink "TubBites$Reader" (263 : Nat) "TubBites$Not") ∈ lw_all := lw_g (lw_at lw_m3 40 rfl) rfl
theorem q666 : (Jvm.Cond.methodLink "TubBites$Reader" (265 : Nat) ({ cls := "TubBites$Not", name := "<init>", desc := "(LTubBites$Part;)V" } : Jvm.MethodName)) ∈ lw_all := lw_g (lw_at lw_m3 42 rfl) rfl
theorem q677 : (Jvm.Cond.methodLink "TubBites$Reader" (268 : Nat) ({ cls := "TubBites$Reader", name := "sum", desc := "()LTubBites$Part;" } : Jvm.MethodName)) ∈ lw_all := lw_g (lw_at lw_m3 53 rfl) rfl
theorem q678 : (Jvm.Cond.privateMethod ({ cls := "TubBites$Reader", name := "sum", desc := "()LTubBites$Part;" } : Jvm.MethodName)) ∈ lw_tbl := lw_at lw_m3 54 rfl
theorem q679 : (Jvm.Cond.instanceMethod ({ cls := "TubBites$Reader", name := "sum", desc := "()LTubBites$Part;" } : Jvm.MethodName)) ∈ lw_all := lw_g (lw_at lw_m3 55 rfl) rfl
theorem q680 : (Jvm.Cond.code ({ cls := "TubBites$Reader", name := "sum", desc := "()LTubBites$Part;" } : Jvm.MethodName) prog_13_method_32_code (3 : Nat) (Option.some (Jvm.ClassFile.FieldType.object "TubBites$Part"))) ∈ lw_all := lw_g (lw_at lw_m3 56 rfl) rfl
theorem q681 : (Jvm.Cond.methodLink "TubBites$Reader" (274 : Nat) ({ cls := "TubBites$Reader", name := "term", desc := "()LTubBites$Part;" } : Jvm.MethodName)) ∈ lw_all := lw_g (lw_at lw_m3 57 rfl) rfl
theorem q682 : (Jvm.Cond.privateMethod ({ cls := "TubBites$Reader", name := "term", desc := "()LTubBites$Part;" } : Jvm.MethodName)) ∈ lw_tbl := lw_at lw_m3 58 rfl
theorem q683 : (Jvm.Cond.instanceMethod ({ cls := "TubBites$Reader", name := "term", desc := "()LTubBites$Part;" } : Jvm.MethodName)) ∈ lw_all := lw_g (lw_at lw_m3 59 rfl) rfl
theorem q684 : (Jvm.Cond.code ({ cls := "TubBites$Reader", name := "term", desc := "()LTubBites$Part;" } : Jvm.MethodName) prog_13_method_33_code (3 : Nat) (Option.some (Jvm.ClassFile.FieldType.object "TubBites$Part"))) ∈ lw_all := lw_g (lw_at lw_m3 60 rfl) rfl
theorem q685 : (Jvm.Cond.methodLink "TubBites$Reader" (277 : Nat) ({ cls := "TubBites$Reader", name := "unit", desc := "()LTubBites$Part;" } : Jvm.MethodName)) ∈ lw_all := lw_g (lw_at lw_m3 61 rfl) rfl
theorem q686 : (Jvm.Cond.privateMethod ({ cls := "TubBites$Reader", name := "unit", desc := "()LTubBites$Part;" } : Jvm.MethodName)) ∈ lw_tbl := lw_at lw_m3 62 rfl
theorem q687 : (Jvm.Cond.instanceMethod ({ cls := "TubBites$Reader", name := "unit", desc := "()LTubBites$Part;" } : Jvm.MethodName)) ∈ lw_all := lw_g (lw_at lw_m3 63 rfl) rfl
theorem q688 : (Jvm.Cond.code ({ cls := "TubBites$Reader", name := "unit", desc := "()LTubBites$Part;" } : Jvm.MethodName) prog_13_method_34_code (4 : Nat) (Option.some (Jvm.ClassFile.FieldType.object "TubBites$Part"))) ∈ lw_all := lw_g (lw_at lw_m3 64 rfl) rfl
theorem q689 : (Jvm.Cond.methodLink "TubBites$Reader" (271 : Nat) ({ cls := "TubBites$Reader", name := "isSignHere", desc := "(I)Z" } : Jvm.MethodName)) ∈ lw_all := lw_g (lw_at lw_m3 65 rfl) rfl
theorem q690 : (Jvm.Cond.privateMethod ({ cls := "TubBites$Reader", name := "isSignHere", desc := "(I)Z" } : Jvm.MethodName)) ∈ lw_tbl := lw_at lw_m3 66 rfl
theorem q691 : (Jvm.Cond.instanceMethod ({ cls := "TubBites$Reader", name := "isSignHere", desc := "(I)Z" } : Jvm.MethodName)) ∈ lw_all := lw_g (lw_at lw_m3 67 rfl) rfl
theorem q692 : (Jvm.Cond.code ({ cls := "TubBites$Reader", name := "isSignHere", desc := "(I)Z" } : Jvm.MethodName) prog_13_method_11_code (2 : Nat) (Option.some Jvm.ClassFile.FieldType.boolean)) ∈ lw_all := lw_g (lw_at lw_m3 68 rfl) rfl
theorem q693 : (Jvm.Cond.fieldLink "TubBites$Reader" (280 : Nat) "TubBites$Reader" "NAMED" "[Ljava/lang/String;") ∈ lw_all := lw_g (lw_at lw_m3 69 rfl) rfl
theorem q694 : (Jvm.Cond.laysStatic "TubBites$Reader" "NAMED" "[Ljava/lang/String;") ∈ lw_tbl := lw_at lw_m3 70 rfl
theorem q695 : (Jvm.Cond.classLink "TubBites$Reader" (286 : Nat) "TubBites$Numeral") ∈ lw_all := lw_g (lw_at lw_m3 71 rfl) rfl
theorem q697 : (Jvm.Cond.methodLink "TubBites$Reader" (288 : Nat) ({ cls := "TubBites$Numeral", name := "<init>", desc := "(I)V" } : Jvm.MethodName)) ∈ lw_all := lw_g (lw_at lw_m3 73 rfl) rfl
theorem q705 : (Jvm.Cond.classLink "TubBites$Reader" (291 : Nat) "TubBites$Named") ∈ lw_all := lw_g (lw_at lw_m3 81 rfl) rfl
theorem q707 : (Jvm.Cond.methodLink "TubBites$Reader" (293 : Nat) ({ cls := "TubBites$Named", name := "<init>", desc := "(I)V" } : Jvm.MethodName)) ∈ lw_all := lw_g (lw_at lw_m3 83 rfl) rfl
theorem q715 : (Jvm.Cond.classLink "TubBites$Reader" (248 : Nat) "TubBites$Two") ∈ lw_all := lw_g (lw_at lw_m3 91 rfl) rfl
theorem q717 : (Jvm.Cond.methodLink "TubBites$Reader" (250 : Nat) ({ cls := "TubBites$Two", name := "<init>", desc := "(ILTubBites$Part;LTubBites$Part;)V" } : Jvm.MethodName)) ∈ lw_all := lw_g (lw_at lw_m3 93 rfl) rfl
theorem q731 : (Jvm.Cond.stringRef "TubBites$Reader" (256 : Nat) "and") ∈ lw_tbl := lw_at lw_m3 107 rfl
theorem q732 : (Jvm.Cond.stringRef "TubBites$Reader" (246 : Nat) "or") ∈ lw_tbl := lw_at lw_m3 108 rfl
theorem q733 : (Jvm.Cond.methodLink "TubBites$Reader" (168 : Nat) ({ cls := "TubBites$Rule", name := "<init>", desc := "(JLTubBites$Part;)V" } : Jvm.MethodName)) ∈ lw_all := lw_g (lw_at lw_m3 109 rfl) rfl
theorem q738 : (Jvm.Cond.fieldLinkNest "TubBites$Reader" (117 : Nat) "TubBites$Rule" "name" "J" "TubBites") ∈ lw_tbl := lw_at lw_m3 114 rfl
theorem q746 : (Jvm.Cond.methodLink "TubBites$Reader" (171 : Nat) ({ cls := "java/util/ArrayList", name := "add", desc := "(Ljava/lang/Object;)Z" } : Jvm.MethodName)) ∈ lw_all := lw_g (lw_at lw_m3 122 rfl) rfl
theorem q789 : (Jvm.Cond.selects "TubBites$Reader" ({ cls := "java/lang/Object", name := "getClass", desc := "()Ljava/lang/Class;" } : Jvm.MethodName) ({ cls := "java/lang/Object", name := "getClass", desc := "()Ljava/lang/Class;" } : Jvm.MethodName)) ∈ lw_all := lw_g (lw_at lw_m3 165 rfl) rfl
theorem q814 : (Jvm.Cond.methodLink "TubBites$Reader" (323 : Nat) ({ cls := "TubBites$Reader", name := "apple", desc := "()V" } : Jvm.MethodName)) ∈ lw_all := lw_g (lw_at lw_m3 190 rfl) rfl
theorem q815 : (Jvm.Cond.privateMethod ({ cls := "TubBites$Reader", name := "apple", desc := "()V" } : Jvm.MethodName)) ∈ lw_tbl := lw_at lw_m3 191 rfl
theorem q816 : (Jvm.Cond.instanceMethod ({ cls := "TubBites$Reader", name := "apple", desc := "()V" } : Jvm.MethodName)) ∈ lw_all := lw_g (lw_at lw_m3 192 rfl) rfl
theorem q817 : (Jvm.Cond.code ({ cls := "TubBites$Reader", name := "apple", desc := "()V" } : Jvm.MethodName) prog_13_method_25_code (4 : Nat) (Option.none : Option Jvm.ClassFile.FieldType)) ∈ lw_all := lw_g (lw_at lw_m3 193 rfl) rfl
theorem q818 : (Jvm.Cond.classLink "TubBites$Reader" (121 : Nat) "TubBites$Apple") ∈ lw_all := lw_g (lw_at lw_m3 194 rfl) rfl
theorem q820 : (Jvm.Cond.methodLink "TubBites$Reader" (175 : Nat) ({ cls := "TubBites$Reader", name := "isApple", desc := "()Z" } : Jvm.MethodName)) ∈ lw_all := lw_g (lw_at lw_m3 196 rfl) rfl
theorem q821 : (Jvm.Cond.privateMethod ({ cls := "TubBites$Reader", name := "isApple", desc := "()Z" } : Jvm.MethodName)) ∈ lw_tbl := lw_at lw_m3 197 rfl
theorem q822 : (Jvm.Cond.instanceMethod ({ cls := "TubBites$Reader", name := "isApple", desc := "()Z" } : Jvm.MethodName)) ∈ lw_all := lw_g (lw_at lw_m3 198 rfl) rfl
theorem q823 : (Jvm.Cond.code ({ cls := "TubBites$Reader", name := "isApple", desc := "()Z" } : Jvm.MethodName) prog_13_method_20_code (2 : Nat) (Option.some Jvm.ClassFile.FieldType.boolean)) ∈ lw_all := lw_g (lw_at lw_m3 199 rfl) rfl
theorem q824 : (Jvm.Cond.methodLink "TubBites$Reader" (178 : Nat) ({ cls := "TubBites$Apple", name := "<init>", desc := "(J)V" } : Jvm.MethodName)) ∈ lw_all := lw_g (lw_at lw_m3 200 rfl) rfl
theorem q829 : (Jvm.Cond.fieldLinkNest "TubBites$Reader" (123 : Nat) "TubBites$Apple" "name" "J" "TubBites") ∈ lw_tbl := lw_at lw_m3 205 rfl
theorem q831 : (Jvm.Cond.fieldLinkNest "TubBites$Reader" (182 : Nat) "TubBites$Apple" "firstX" "I" "TubBites") ∈ lw_tbl := lw_at lw_m3 207 rfl
theorem q833 : (Jvm.Cond.fieldLinkNest "TubBites$Reader" (185 : Nat) "TubBites$Apple" "firstY" "I" "TubBites") ∈ lw_tbl := lw_at lw_m3 209 rfl
theorem q835 : (Jvm.Cond.fieldLinkNest "TubBites$Reader" (189 : Nat) "TubBites$Apple" "firstSize" "I" "TubBites") ∈ lw_tbl := lw_at lw_m3 211 rfl
theorem q838 : (Jvm.Cond.fieldLinkNest "TubBites$Reader" (194 : Nat) "TubBites$Apple" "soft" "I" "TubBites") ∈ lw_tbl := lw_at lw_m3 214 rfl
theorem q840 : (Jvm.Cond.fieldLinkNest "TubBites$Reader" (206 : Nat) "TubBites$Apple" "coin" "I" "TubBites") ∈ lw_tbl := lw_at lw_m3 216 rfl
theorem q844 : (Jvm.Cond.fieldLinkNest "TubBites$Reader" (201 : Nat) "TubBites$Apple" "hasStalk" "Z" "TubBites") ∈ lw_tbl := lw_at lw_m3 220 rfl
theorem q894 : (Jvm.Cond.stringRef "TubBites$Reader" (181 : Nat) "at") ∈ lw_tbl := lw_at lw_m4 30 rfl
theorem q895 : (Jvm.Cond.stringRef "TubBites$Reader" (188 : Nat) "size") ∈ lw_tbl := lw_at lw_m4 31 rfl
theorem q896 : (Jvm.Cond.stringRef "TubBites$Reader" (192 : Nat) "soft") ∈ lw_tbl := lw_at lw_m4 32 rfl
theorem q897 : (Jvm.Cond.stringRef "TubBites$Reader" (196 : Nat) "stalk") ∈ lw_tbl := lw_at lw_m4 33 rfl
theorem q898 : (Jvm.Cond.stringRef "TubBites$Reader" (204 : Nat) "coin") ∈ lw_tbl := lw_at lw_m4 34 rfl
theorem q899 : (Jvm.Cond.methodLink "TubBites$Reader" (325 : Nat) ({ cls := "TubBites$Reader", name := "bobber", desc := "()V" } : Jvm.MethodName)) ∈ lw_all := lw_g (lw_at lw_m4 35 rfl) rfl
theorem q900 : (Jvm.Cond.privateMethod ({ cls := "TubBites$Reader", name := "bobber", desc := "()V" } : Jvm.MethodName)) ∈ lw_tbl := lw_at lw_m4 36 rfl
theorem q901 : (Jvm.Cond.instanceMethod ({ cls := "TubBites$Reader", name := "bobber", desc := "()V" } : Jvm.MethodName)) ∈ lw_all := lw_g (lw_at lw_m4 37 rfl) rfl
theorem q902 : (Jvm.Cond.code ({ cls := "TubBites$Reader", name := "bobber", desc := "()V" } : Jvm.MethodName) prog_13_method_26_code (2 : Nat) (Option.none : Option Jvm.ClassFile.FieldType)) ∈ lw_all := lw_g (lw_at lw_m4 38 rfl) rfl
theorem q903 : (Jvm.Cond.classLink "TubBites$Reader" (127 : Nat) "TubBites$Bobber") ∈ lw_all := lw_g (lw_at lw_m4 39 rfl) rfl
theorem q905 : (Jvm.Cond.methodLink "TubBites$Reader" (208 : Nat) ({ cls := "TubBites$Reader", name := "isBobber", desc := "()Z" } : Jvm.MethodName)) ∈ lw_all := lw_g (lw_at lw_m4 41 rfl) rfl
theorem q906 : (Jvm.Cond.privateMethod ({ cls := "TubBites$Reader", name := "isBobber", desc := "()Z" } : Jvm.MethodName)) ∈ lw_tbl := lw_at lw_m4 42 rfl
theorem q907 : (Jvm.Cond.instanceMethod ({ cls := "TubBites$Reader", name := "isBobber", desc := "()Z" } : Jvm.MethodName)) ∈ lw_all := lw_g (lw_at lw_m4 43 rfl) rfl
theorem q908 : (Jvm.Cond.code ({ cls := "TubBites$Reader", name := "isBobber", desc := "()Z" } : Jvm.MethodName) prog_13_method_21_code (2 : Nat) (Option.some Jvm.ClassFile.FieldType.boolean)) ∈ lw_all := lw_g (lw_at lw_m4 44 rfl) rfl
theorem q909 : (Jvm.Cond.methodLink "TubBites$Reader" (211 : Nat) ({ cls := "TubBites$Bobber", name := "<init>", desc := "(J)V" } : Jvm.MethodName)) ∈ lw_all := lw_g (lw_at lw_m4 45 rfl) rfl
theorem q914 : (Jvm.Cond.fieldLinkNest "TubBites$Reader" (129 : Nat) "TubBites$Bobber" "name" "J" "TubBites") ∈ lw_tbl := lw_at lw_m4 50 rfl
theorem q917 : (Jvm.Cond.fieldLinkNest "TubBites$Reader" (212 : Nat) "TubBites$Bobber" "x" "I" "TubBites") ∈ lw_tbl := lw_at lw_m4 53 rfl
theorem q921 : (Jvm.Cond.fieldLinkNest "TubBites$Reader" (215 : Nat) "TubBites$Bobber" "y" "I" "TubBites") ∈ lw_tbl := lw_at lw_m4 57 rfl
theorem q924 : (Jvm.Cond.fieldLinkNest "TubBites$Reader" (220 : Nat) "TubBites$Bobber" "reach" "I" "TubBites") ∈ lw_tbl := lw_at lw_m4 60 rfl
theorem q927 : (Jvm.Cond.fieldLinkNest "TubBites$Reader" (224 : Nat) "TubBites$Bobber" "allBreath" "I" "TubBites") ∈ lw_tbl := lw_at lw_m4 63 rfl
theorem q931 : (Jvm.Cond.fieldLinkNest "TubBites$Reader" (229 : Nat) "TubBites$Bobber" "mouth" "I" "TubBites") ∈ lw_tbl := lw_at lw_m4 67 rfl
theorem q933 : (Jvm.Cond.fieldLinkNest "TubBites$Reader" (231 : Nat) "TubBites$Bobber" "rule" "I" "TubBites") ∈ lw_tbl := lw_at lw_m4 69 rfl
theorem q969 : (Jvm.Cond.stringRef "TubBites$Reader" (218 : Nat) "reach") ∈ lw_tbl := lw_at lw_m4 105 rfl
theorem q970 : (Jvm.Cond.stringRef "TubBites$Reader" (222 : Nat) "breath") ∈ lw_tbl := lw_at lw_m4 106 rfl
theorem q971 : (Jvm.Cond.stringRef "TubBites$Reader" (227 : Nat) "mouth") ∈ lw_tbl := lw_at lw_m4 107 rfl
theorem q972 : (Jvm.Cond.methodLink "TubBites$Reader" (327 : Nat) ({ cls := "TubBites$Reader", name := "odds", desc := "()V" } : Jvm.MethodName)) ∈ lw_all := lw_g (lw_at lw_m4 108 rfl) rfl
theorem q973 : (Jvm.Cond.privateMethod ({ cls := "TubBites$Reader", name := "odds", desc := "()V" } : Jvm.MethodName)) ∈ lw_tbl := lw_at lw_m4 109 rfl
theorem q974 : (Jvm.Cond.instanceMethod ({ cls := "TubBites$Reader", name := "odds", desc := "()V" } : Jvm.MethodName)) ∈ lw_all := lw_g (lw_at lw_m4 110 rfl) rfl
theorem q975 : (Jvm.Cond.code ({ cls := "TubBites$Reader", name := "odds", desc := "()V" } : Jvm.MethodName) prog_13_method_23_code (2 : Nat) (Option.none : Option Jvm.ClassFile.FieldType)) ∈ lw_all := lw_g (lw_at lw_m4 111 rfl) rfl
theorem q976 : (Jvm.Cond.fieldLink "TubBites$Reader" (146 : Nat) "TubBites$Reader" "TRIED" "[Ljava/lang/String;") ∈ lw_all := lw_g (lw_at lw_m4 112 rfl) rfl
theorem q977 : (Jvm.Cond.laysStatic "TubBites$Reader" "TRIED" "[Ljava/lang/String;") ∈ lw_tbl := lw_at lw_m4 113 rfl
theorem q978 : (Jvm.Cond.methodLink "TubBites$Reader" (332 : Nat) ({ cls := "TubBites$Water", name := "begin", desc := "()V" } : Jvm.MethodName)) ∈ lw_all := lw_g (lw_at lw_m4 114 rfl) rfl
theorem q2372 : (Jvm.Cond.castable "TubBites$Reader" "java/lang/Object") ∈ lw_tbl := lw_at lw_m10 68 rfl
theorem q2406 : (Jvm.Cond.stringRef "TubBites$Reader" (335 : Nat) "free") ∈ lw_tbl := lw_at lw_m10 102 rfl
theorem q2407 : (Jvm.Cond.stringRef "TubBites$Reader" (337 : Nat) "wall") ∈ lw_tbl := lw_at lw_m10 103 rfl
theorem q2408 : (Jvm.Cond.stringRef "TubBites$Reader" (339 : Nat) "ground") ∈ lw_tbl := lw_at lw_m10 104 rfl
theorem q2409 : (Jvm.Cond.stringRef "TubBites$Reader" (341 : Nat) "far") ∈ lw_tbl := lw_at lw_m10 105 rfl
theorem q2410 : (Jvm.Cond.stringRef "TubBites$Reader" (343 : Nat) "tries") ∈ lw_tbl := lw_at lw_m10 106 rfl
theorem q2411 : (Jvm.Cond.stringRef "TubBites$Reader" (345 : Nat) "kind") ∈ lw_tbl := lw_at lw_m10 107 rfl
theorem q2412 : (Jvm.Cond.stringRef "TubBites$Reader" (347 : Nat) "lean") ∈ lw_tbl := lw_at lw_m10 108 rfl
theorem in_X5 : ∀ w ∈ wsX50, w ∈ lw_all := lw_in wsX50 [397, 399, 401, 403, 405, 407, 409, 411, 413, 415] (by decide +kernel) (by decide +kernel)

/-! TubBites$Wrong -/
set_option maxRecDepth 100000
def RX6 : String := "TubBites$Wrong"
def TX6 : u_T := fun k => match k with
  | 0 => ("java/lang/Throwable", "cause", "Ljava/lang/Throwable;", false)
  | 1 => ("java/lang/Throwable", "stackTrace", "[Ljava/lang/StackTraceElement;", false)
  | 2 => ("java/lang/Throwable", "suppressedExceptions", "Ljava/util/List;", false)
  | 3 => ("java/lang/Throwable", "detailMessage", "Ljava/lang/String;", false)
  | 4 => ("java/lang/Throwable", "backtrace", "Ljava/lang/Object;", false)
  | 5 => ("java/lang/Throwable", "depth", "I", false)
  | 6 => ("TubBites$Wrong", "kind", "I", true)
  | _ => ("TubBites$Wrong", "place", "I", true)
def tyX6 : Nat → FieldType := fun k => match k with
  | 0 => .object "java/lang/Throwable"
  | 1 => .array (.object "java/lang/StackTraceElement")
  | 2 => .object "java/util/List"
  | 3 => .object "java/lang/String"
  | 4 => .object "java/lang/Object"
  | 5 => .int
  | 6 => .int
  | _ => .int
abbrev wsX60 : List Cond := u_ws RX6 TX6 8
theorem nmX6 : ∀ a, a < 8 → ∀ b, b < 8 → a ≠ b → (TX6 a).2.1 ≠ (TX6 b).2.1 := by decide +kernel
theorem tyX6_ok : ∀ k, k < 8 → parseFieldDescriptor (TX6 k).2.2.1 = some (tyX6 k) := by decide +kernel
abbrev cX6_init : ByteArray := prog_21_method_1_code
def yX6_init : MethodName := ⟨RX6, "<init>", "(II)V"⟩
def dkwX6_init_0 : List UInt8 := [42, 183, 0, 1, 42, 27, 181, 0, 7, 42, 28, 181, 0, 13, 177]
abbrev dktX6_init_0 : List UInt8 := dkwX6_init_0 ++ []
theorem dksX6_init_0 : cX6_init.data.toList.drop 0 = dktX6_init_0 := by decide +kernel
theorem dX6_init_0 : decode cX6_init 0 = .ok (.aload_n 0, 1) := dk_42 (dk_at dksX6_init_0 0 rfl rfl)
theorem dX6_init_1 : decode cX6_init 1 = .ok (.invokespecial 1, 3) := dk_183 0 1 (dk_at dksX6_init_0 1 rfl rfl)
theorem dX6_init_4 : decode cX6_init 4 = .ok (.aload_n 0, 1) := dk_42 (dk_at dksX6_init_0 4 rfl rfl)
theorem dX6_init_5 : decode cX6_init 5 = .ok (.iload_n 1, 1) := dk_27 (dk_at dksX6_init_0 5 rfl rfl)
theorem dX6_init_6 : decode cX6_init 6 = .ok (.putfield 7, 3) := dk_181 0 7 (dk_at dksX6_init_0 6 rfl rfl)
theorem dX6_init_9 : decode cX6_init 9 = .ok (.aload_n 0, 1) := dk_42 (dk_at dksX6_init_0 9 rfl rfl)
theorem dX6_init_10 : decode cX6_init 10 = .ok (.iload_n 2, 1) := dk_28 (dk_at dksX6_init_0 10 rfl rfl)
theorem dX6_init_11 : decode cX6_init 11 = .ok (.putfield 13, 3) := dk_181 0 13 (dk_at dksX6_init_0 11 rfl rfl)
theorem dX6_init_14 : decode cX6_init 14 = .ok (.return_, 1) := dk_177 (dk_at dksX6_init_0 14 rfl rfl)
theorem q160 : (Jvm.Cond.initialized "TubBites$Wrong") ∈ lw_all := lw_g (lw_at lw_m1 16 rfl) rfl
theorem q523 : (Jvm.Cond.instantiable "TubBites$Wrong" (8 : Nat)) ∈ lw_all := lw_g (lw_at lw_m2 139 rfl) rfl
theorem q524 : (Jvm.Cond.castable "TubBites$Wrong" "TubBites$Wrong") ∈ lw_tbl := lw_at lw_m2 140 rfl
theorem q529 : (Jvm.Cond.selects "TubBites$Wrong" ({ cls := "java/lang/Throwable", name := "fillInStackTrace", desc := "(I)Ljava/lang/Throwable;" } : Jvm.MethodName) ({ cls := "java/lang/Throwable", name := "fillInStackTrace", desc := "(I)Ljava/lang/Throwable;" } : Jvm.MethodName)) ∈ lw_all := lw_g (lw_at lw_m2 145 rfl) rfl
theorem q530 : (Jvm.Cond.selects "TubBites$Wrong" ({ cls := "java/lang/Throwable", name := "fillInStackTrace", desc := "()Ljava/lang/Throwable;" } : Jvm.MethodName) ({ cls := "java/lang/Throwable", name := "fillInStackTrace", desc := "()Ljava/lang/Throwable;" } : Jvm.MethodName)) ∈ lw_all := lw_g (lw_at lw_m2 146 rfl) rfl
theorem q531 : (Jvm.Cond.lays "TubBites$Wrong" "java/lang/Throwable" "cause" "Ljava/lang/Throwable;") ∈ lw_all := lw_g (lw_at lw_m2 147 rfl) rfl
theorem q533 : (Jvm.Cond.lays "TubBites$Wrong" "java/lang/Throwable" "stackTrace" "[Ljava/lang/StackTraceElement;") ∈ lw_all := lw_g (lw_at lw_m2 149 rfl) rfl
theorem q535 : (Jvm.Cond.lays "TubBites$Wrong" "java/lang/Throwable" "suppressedExceptions" "Ljava/util/List;") ∈ lw_all := lw_g (lw_at lw_m2 151 rfl) rfl
theorem q537 : (Jvm.Cond.lays "TubBites$Wrong" "java/lang/Throwable" "detailMessage" "Ljava/lang/String;") ∈ lw_all := lw_g (lw_at lw_m2 153 rfl) rfl
theorem q539 : (Jvm.Cond.lays "TubBites$Wrong" "java/lang/Throwable" "backtrace" "Ljava/lang/Object;") ∈ lw_all := lw_g (lw_at lw_m2 155 rfl) rfl
theorem q560 : (Jvm.Cond.instanceMethod ({ cls := "TubBites$Wrong", name := "<init>", desc := "(II)V" } : Jvm.MethodName)) ∈ lw_all := lw_g (lw_at lw_m2 176 rfl) rfl
theorem q561 : (Jvm.Cond.code ({ cls := "TubBites$Wrong", name := "<init>", desc := "(II)V" } : Jvm.MethodName) prog_21_method_1_code (3 : Nat) (Option.none : Option Jvm.ClassFile.FieldType)) ∈ lw_all := lw_g (lw_at lw_m2 177 rfl) rfl
theorem q562 : (Jvm.Cond.methodLink "TubBites$Wrong" (1 : Nat) ({ cls := "java/lang/Exception", name := "<init>", desc := "()V" } : Jvm.MethodName)) ∈ lw_all := lw_g (lw_at lw_m2 178 rfl) rfl
theorem q566 : (Jvm.Cond.fieldLink "TubBites$Wrong" (7 : Nat) "TubBites$Wrong" "kind" "I") ∈ lw_all := lw_g (lw_at lw_m2 182 rfl) rfl
theorem q568 : (Jvm.Cond.fieldLink "TubBites$Wrong" (13 : Nat) "TubBites$Wrong" "place" "I") ∈ lw_all := lw_g (lw_at lw_m2 184 rfl) rfl
theorem q574 : (Jvm.Cond.laysFinal "TubBites$Wrong" "TubBites$Wrong" "kind" "I") ∈ lw_all := lw_g (lw_at lw_m2 190 rfl) rfl
theorem q575 : (Jvm.Cond.soleField "TubBites$Wrong" "kind") ∈ lw_all := lw_g (lw_at lw_m2 191 rfl) rfl
theorem q576 : (Jvm.Cond.laysFinal "TubBites$Wrong" "TubBites$Wrong" "place" "I") ∈ lw_all := lw_g (lw_at lw_m2 192 rfl) rfl
theorem q577 : (Jvm.Cond.soleField "TubBites$Wrong" "place") ∈ lw_all := lw_g (lw_at lw_m2 193 rfl) rfl
theorem q582 : (Jvm.Cond.lays "TubBites$Wrong" "java/lang/Throwable" "depth" "I") ∈ lw_all := lw_g (lw_at lw_m2 198 rfl) rfl
theorem q585 : (Jvm.Cond.superclass "TubBites$Wrong" "java/lang/Exception") ∈ lw_all := lw_g (lw_at lw_m2 201 rfl) rfl
theorem q796 : (Jvm.Cond.selects "TubBites$Wrong" ({ cls := "java/lang/Object", name := "getClass", desc := "()Ljava/lang/Class;" } : Jvm.MethodName) ({ cls := "java/lang/Object", name := "getClass", desc := "()Ljava/lang/Class;" } : Jvm.MethodName)) ∈ lw_all := lw_g (lw_at lw_m3 172 rfl) rfl
theorem q2373 : (Jvm.Cond.castable "TubBites$Wrong" "java/lang/Object") ∈ lw_tbl := lw_at lw_m10 69 rfl
theorem in_X6 : ∀ w ∈ wsX60, w ∈ lw_all := lw_in wsX60 [531, 533, 535, 537, 539, 582, 574, 576] (by decide +kernel) (by decide +kernel)

/-! TubBites$Rule -/
set_option maxRecDepth 100000
def RX7 : String := "TubBites$Rule"
def TX7 : u_T := fun k => match k with
  | 0 => ("TubBites$Rule", "name", "J", true)
  | _ => ("TubBites$Rule", "part", "LTubBites$Part;", true)
def tyX7 : Nat → FieldType := fun k => match k with
  | 0 => .long
  | _ => .object "TubBites$Part"
abbrev wsX70 : List Cond := u_ws RX7 TX7 2
theorem nmX7 : ∀ a, a < 2 → ∀ b, b < 2 → a ≠ b → (TX7 a).2.1 ≠ (TX7 b).2.1 := by decide +kernel
theorem tyX7_ok : ∀ k, k < 2 → parseFieldDescriptor (TX7 k).2.2.1 = some (tyX7 k) := by decide +kernel
abbrev cX7_init : ByteArray := prog_14_method_1_code
def yX7_init : MethodName := ⟨RX7, "<init>", "(JLTubBites$Part;)V"⟩
def dkwX7_init_0 : List UInt8 := [42, 183, 0, 1, 42, 31, 181, 0, 7, 42, 45, 181, 0, 13, 177]
abbrev dktX7_init_0 : List UInt8 := dkwX7_init_0 ++ []
theorem dksX7_init_0 : cX7_init.data.toList.drop 0 = dktX7_init_0 := by decide +kernel
theorem dX7_init_0 : decode cX7_init 0 = .ok (.aload_n 0, 1) := dk_42 (dk_at dksX7_init_0 0 rfl rfl)
theorem dX7_init_1 : decode cX7_init 1 = .ok (.invokespecial 1, 3) := dk_183 0 1 (dk_at dksX7_init_0 1 rfl rfl)
theorem dX7_init_4 : decode cX7_init 4 = .ok (.aload_n 0, 1) := dk_42 (dk_at dksX7_init_0 4 rfl rfl)
theorem dX7_init_5 : decode cX7_init 5 = .ok (.lload_n 1, 1) := dk_31 (dk_at dksX7_init_0 5 rfl rfl)
theorem dX7_init_6 : decode cX7_init 6 = .ok (.putfield 7, 3) := dk_181 0 7 (dk_at dksX7_init_0 6 rfl rfl)
theorem dX7_init_9 : decode cX7_init 9 = .ok (.aload_n 0, 1) := dk_42 (dk_at dksX7_init_0 9 rfl rfl)
theorem dX7_init_10 : decode cX7_init 10 = .ok (.aload_n 3, 1) := dk_45 (dk_at dksX7_init_0 10 rfl rfl)
theorem dX7_init_11 : decode cX7_init 11 = .ok (.putfield 13, 3) := dk_181 0 13 (dk_at dksX7_init_0 11 rfl rfl)
theorem dX7_init_14 : decode cX7_init 14 = .ok (.return_, 1) := dk_177 (dk_at dksX7_init_0 14 rfl rfl)
theorem q162 : (Jvm.Cond.initialized "TubBites$Rule") ∈ lw_all := lw_g (lw_at lw_m1 18 rfl) rfl
theorem q642 : (Jvm.Cond.instantiable "TubBites$Rule" (2 : Nat)) ∈ lw_all := lw_g (lw_at lw_m3 18 rfl) rfl
theorem q734 : (Jvm.Cond.instanceMethod ({ cls := "TubBites$Rule", name := "<init>", desc := "(JLTubBites$Part;)V" } : Jvm.MethodName)) ∈ lw_all := lw_g (lw_at lw_m3 110 rfl) rfl
theorem q735 : (Jvm.Cond.code ({ cls := "TubBites$Rule", name := "<init>", desc := "(JLTubBites$Part;)V" } : Jvm.MethodName) prog_14_method_1_code (4 : Nat) (Option.none : Option Jvm.ClassFile.FieldType)) ∈ lw_all := lw_g (lw_at lw_m3 111 rfl) rfl
theorem q736 : (Jvm.Cond.methodLink "TubBites$Rule" (1 : Nat) ({ cls := "java/lang/Object", name := "<init>", desc := "()V" } : Jvm.MethodName)) ∈ lw_all := lw_g (lw_at lw_m3 112 rfl) rfl
theorem q737 : (Jvm.Cond.fieldLink "TubBites$Rule" (7 : Nat) "TubBites$Rule" "name" "J") ∈ lw_all := lw_g (lw_at lw_m3 113 rfl) rfl
theorem q739 : (Jvm.Cond.fieldLink "TubBites$Rule" (13 : Nat) "TubBites$Rule" "part" "LTubBites$Part;") ∈ lw_all := lw_g (lw_at lw_m3 115 rfl) rfl
theorem q741 : (Jvm.Cond.laysFinal "TubBites$Rule" "TubBites$Rule" "name" "J") ∈ lw_all := lw_g (lw_at lw_m3 117 rfl) rfl
theorem q742 : (Jvm.Cond.soleField "TubBites$Rule" "name") ∈ lw_all := lw_g (lw_at lw_m3 118 rfl) rfl
theorem q743 : (Jvm.Cond.laysFinal "TubBites$Rule" "TubBites$Rule" "part" "LTubBites$Part;") ∈ lw_all := lw_g (lw_at lw_m3 119 rfl) rfl
theorem q744 : (Jvm.Cond.soleField "TubBites$Rule" "part") ∈ lw_all := lw_g (lw_at lw_m3 120 rfl) rfl
theorem q745 : (Jvm.Cond.superclass "TubBites$Rule" "java/lang/Object") ∈ lw_all := lw_g (lw_at lw_m3 121 rfl) rfl
theorem q790 : (Jvm.Cond.selects "TubBites$Rule" ({ cls := "java/lang/Object", name := "getClass", desc := "()Ljava/lang/Class;" } : Jvm.MethodName) ({ cls := "java/lang/Object", name := "getClass", desc := "()Ljava/lang/Class;" } : Jvm.MethodName)) ∈ lw_all := lw_g (lw_at lw_m3 166 rfl) rfl
theorem q2374 : (Jvm.Cond.castable "TubBites$Rule" "java/lang/Object") ∈ lw_tbl := lw_at lw_m10 70 rfl
theorem in_X7 : ∀ w ∈ wsX70, w ∈ lw_all := lw_in wsX70 [741, 743] (by decide +kernel) (by decide +kernel)

/-! TubBites$Part -/
set_option maxRecDepth 100000
def RX8 : String := "TubBites$Part"
abbrev cX8_init : ByteArray := prog_11_method_1_code
def yX8_init : MethodName := ⟨RX8, "<init>", "()V"⟩
theorem dX8_init_0 : decode cX8_init 0 = .ok (.aload_n 0, 1) := by decide +kernel
theorem dX8_init_1 : decode cX8_init 1 = .ok (.invokespecial 1, 3) := by decide +kernel
theorem dX8_init_4 : decode cX8_init 4 = .ok (.return_, 1) := by decide +kernel
theorem q163 : (Jvm.Cond.initialized "TubBites$Part") ∈ lw_all := lw_g (lw_at lw_m1 19 rfl) rfl
theorem q670 : (Jvm.Cond.instanceMethod ({ cls := "TubBites$Part", name := "<init>", desc := "()V" } : Jvm.MethodName)) ∈ lw_all := lw_g (lw_at lw_m3 46 rfl) rfl
theorem q671 : (Jvm.Cond.code ({ cls := "TubBites$Part", name := "<init>", desc := "()V" } : Jvm.MethodName) prog_11_method_1_code (1 : Nat) (Option.none : Option Jvm.ClassFile.FieldType)) ∈ lw_all := lw_g (lw_at lw_m3 47 rfl) rfl
theorem q672 : (Jvm.Cond.methodLink "TubBites$Part" (1 : Nat) ({ cls := "java/lang/Object", name := "<init>", desc := "()V" } : Jvm.MethodName)) ∈ lw_all := lw_g (lw_at lw_m3 48 rfl) rfl
theorem q1109 : (Jvm.Cond.declares ({ cls := "TubBites$Part", name := "of", desc := "(LTubBites$Told;)I" } : Jvm.MethodName)) ∈ lw_tbl := lw_at lw_m5 5 rfl
theorem q1110 : (Jvm.Cond.sameMethod "TubBites$Part" "TubBites$Part" "of" "(LTubBites$Told;)I") ∈ lw_all := lw_g (lw_at lw_m5 6 rfl) rfl
theorem q2363 : (Jvm.Cond.castable "TubBites$Part" "java/lang/Object") ∈ lw_tbl := lw_at lw_m10 59 rfl

/-! TubBites$Not -/
set_option maxRecDepth 100000
def RX9 : String := "TubBites$Not"
def TX9 : u_T := fun k => match k with
  | _ => ("TubBites$Not", "a", "LTubBites$Part;", true)
def tyX9 : Nat → FieldType := fun k => match k with
  | _ => .object "TubBites$Part"
abbrev wsX90 : List Cond := u_ws RX9 TX9 1
theorem nmX9 : ∀ a, a < 1 → ∀ b, b < 1 → a ≠ b → (TX9 a).2.1 ≠ (TX9 b).2.1 := by decide +kernel
theorem tyX9_ok : ∀ k, k < 1 → parseFieldDescriptor (TX9 k).2.2.1 = some (tyX9 k) := by decide +kernel
abbrev cX9_init : ByteArray := prog_9_method_1_code
def yX9_init : MethodName := ⟨RX9, "<init>", "(LTubBites$Part;)V"⟩
def dkwX9_init_0 : List UInt8 := [42, 183, 0, 1, 42, 43, 181, 0, 7, 177]
abbrev dktX9_init_0 : List UInt8 := dkwX9_init_0 ++ []
theorem dksX9_init_0 : cX9_init.data.toList.drop 0 = dktX9_init_0 := by decide +kernel
theorem dX9_init_0 : decode cX9_init 0 = .ok (.aload_n 0, 1) := dk_42 (dk_at dksX9_init_0 0 rfl rfl)
theorem dX9_init_1 : decode cX9_init 1 = .ok (.invokespecial 1, 3) := dk_183 0 1 (dk_at dksX9_init_0 1 rfl rfl)
theorem dX9_init_4 : decode cX9_init 4 = .ok (.aload_n 0, 1) := dk_42 (dk_at dksX9_init_0 4 rfl rfl)
theorem dX9_init_5 : decode cX9_init 5 = .ok (.aload_n 1, 1) := dk_43 (dk_at dksX9_init_0 5 rfl rfl)
theorem dX9_init_6 : decode cX9_init 6 = .ok (.putfield 7, 3) := dk_181 0 7 (dk_at dksX9_init_0 6 rfl rfl)
theorem dX9_init_9 : decode cX9_init 9 = .ok (.return_, 1) := dk_177 (dk_at dksX9_init_0 9 rfl rfl)
abbrev cX9_of : ByteArray := prog_9_method_2_code
def yX9_of : MethodName := ⟨RX9, "of", "(LTubBites$Told;)I"⟩
def dkwX9_of_0 : List UInt8 := [42, 180, 0, 7, 43, 182, 0, 13, 154, 0, 7, 4, 167, 0, 4, 3, 172]
abbrev dktX9_of_0 : List UInt8 := dkwX9_of_0 ++ []
theorem dksX9_of_0 : cX9_of.data.toList.drop 0 = dktX9_of_0 := by decide +kernel
theorem dX9_of_0 : decode cX9_of 0 = .ok (.aload_n 0, 1) := dk_42 (dk_at dksX9_of_0 0 rfl rfl)
theorem dX9_of_1 : decode cX9_of 1 = .ok (.getfield 7, 3) := dk_180 0 7 (dk_at dksX9_of_0 1 rfl rfl)
theorem dX9_of_4 : decode cX9_of 4 = .ok (.aload_n 1, 1) := dk_43 (dk_at dksX9_of_0 4 rfl rfl)
theorem dX9_of_5 : decode cX9_of 5 = .ok (.invokevirtual 13, 3) := dk_182 0 13 (dk_at dksX9_of_0 5 rfl rfl)
theorem dX9_of_8 : decode cX9_of 8 = .ok (.ifCond .ne 7, 3) := dk_154 0 7 (dk_at dksX9_of_0 8 rfl rfl)
theorem dX9_of_11 : decode cX9_of 11 = .ok (.iconst 1, 1) := dk_4 (dk_at dksX9_of_0 11 rfl rfl)
theorem dX9_of_12 : decode cX9_of 12 = .ok (.goto 4, 3) := dk_167 0 4 (dk_at dksX9_of_0 12 rfl rfl)
theorem dX9_of_15 : decode cX9_of 15 = .ok (.iconst 0, 1) := dk_3 (dk_at dksX9_of_0 15 rfl rfl)
theorem dX9_of_16 : decode cX9_of 16 = .ok (.ireturn, 1) := dk_172 (dk_at dksX9_of_0 16 rfl rfl)
theorem q164 : (Jvm.Cond.initialized "TubBites$Not") ∈ lw_all := lw_g (lw_at lw_m1 20 rfl) rfl
theorem q665 : (Jvm.Cond.instantiable "TubBites$Not" (1 : Nat)) ∈ lw_all := lw_g (lw_at lw_m3 41 rfl) rfl
theorem q667 : (Jvm.Cond.instanceMethod ({ cls := "TubBites$Not", name := "<init>", desc := "(LTubBites$Part;)V" } : Jvm.MethodName)) ∈ lw_all := lw_g (lw_at lw_m3 43 rfl) rfl
theorem q668 : (Jvm.Cond.code ({ cls := "TubBites$Not", name := "<init>", desc := "(LTubBites$Part;)V" } : Jvm.MethodName) prog_9_method_1_code (2 : Nat) (Option.none : Option Jvm.ClassFile.FieldType)) ∈ lw_all := lw_g (lw_at lw_m3 44 rfl) rfl
theorem q669 : (Jvm.Cond.methodLinkNest "TubBites$Not" (1 : Nat) ({ cls := "TubBites$Part", name := "<init>", desc := "()V" } : Jvm.MethodName) "TubBites") ∈ lw_tbl := lw_at lw_m3 45 rfl
theorem q673 : (Jvm.Cond.fieldLink "TubBites$Not" (7 : Nat) "TubBites$Not" "a" "LTubBites$Part;") ∈ lw_all := lw_g (lw_at lw_m3 49 rfl) rfl
theorem q674 : (Jvm.Cond.laysFinal "TubBites$Not" "TubBites$Not" "a" "LTubBites$Part;") ∈ lw_all := lw_g (lw_at lw_m3 50 rfl) rfl
theorem q675 : (Jvm.Cond.soleField "TubBites$Not" "a") ∈ lw_all := lw_g (lw_at lw_m3 51 rfl) rfl
theorem q676 : (Jvm.Cond.superclass "TubBites$Not" "TubBites$Part") ∈ lw_all := lw_g (lw_at lw_m3 52 rfl) rfl
theorem q786 : (Jvm.Cond.selects "TubBites$Not" ({ cls := "java/lang/Object", name := "getClass", desc := "()Ljava/lang/Class;" } : Jvm.MethodName) ({ cls := "java/lang/Object", name := "getClass", desc := "()Ljava/lang/Class;" } : Jvm.MethodName)) ∈ lw_all := lw_g (lw_at lw_m3 162 rfl) rfl
theorem q1114 : (Jvm.Cond.selects "TubBites$Not" ({ cls := "TubBites$Part", name := "of", desc := "(LTubBites$Told;)I" } : Jvm.MethodName) ({ cls := "TubBites$Not", name := "of", desc := "(LTubBites$Told;)I" } : Jvm.MethodName)) ∈ lw_all := lw_g (lw_at lw_m5 10 rfl) rfl
theorem q1115 : (Jvm.Cond.instanceMethod ({ cls := "TubBites$Not", name := "of", desc := "(LTubBites$Told;)I" } : Jvm.MethodName)) ∈ lw_all := lw_g (lw_at lw_m5 11 rfl) rfl
theorem q1116 : (Jvm.Cond.code ({ cls := "TubBites$Not", name := "of", desc := "(LTubBites$Told;)I" } : Jvm.MethodName) prog_9_method_2_code (2 : Nat) (Option.some Jvm.ClassFile.FieldType.int)) ∈ lw_all := lw_g (lw_at lw_m5 12 rfl) rfl
theorem q1117 : (Jvm.Cond.methodLink "TubBites$Not" (13 : Nat) ({ cls := "TubBites$Part", name := "of", desc := "(LTubBites$Told;)I" } : Jvm.MethodName)) ∈ lw_all := lw_g (lw_at lw_m5 13 rfl) rfl
theorem q2375 : (Jvm.Cond.castable "TubBites$Not" "java/lang/Object") ∈ lw_tbl := lw_at lw_m10 71 rfl
theorem q2388 : (Jvm.Cond.castable "TubBites$Not" "TubBites$Part") ∈ lw_tbl := lw_at lw_m10 84 rfl
theorem in_X9 : ∀ w ∈ wsX90, w ∈ lw_all := lw_in wsX90 [674] (by decide +kernel) (by decide +kernel)

theorem q144 : (Jvm.Cond.initialized "TubBitesLaw") ∈ lw_all := lw_g (lw_at lw_m1 0 rfl) rfl
set_option maxRecDepth 100000
theorem q176 : (Jvm.Cond.classLink "TubBitesLaw" (7 : Nat) "TubBites") ∈ lw_all := lw_g (lw_at lw_m1 32 rfl) rfl
theorem q178 : (Jvm.Cond.methodLink "TubBitesLaw" (9 : Nat) ({ cls := "TubBites", name := "<init>", desc := "()V" } : Jvm.MethodName)) ∈ lw_all := lw_g (lw_at lw_m1 34 rfl) rfl
theorem q362 : (Jvm.Cond.methodLink "TubBitesLaw" (13 : Nat) ({ cls := "TubBites", name := "feed", desc := "(IIIII)I" } : Jvm.MethodName)) ∈ lw_all := lw_g (lw_at lw_m1 218 rfl) rfl
theorem q370 : (Jvm.Cond.methodLink "TubBitesLaw" (18 : Nat) ({ cls := "TubBites", name := "end", desc := "(I)I" } : Jvm.MethodName)) ∈ lw_all := lw_g (lw_at lw_m1 226 rfl) rfl
theorem q374 : (Jvm.Cond.methodLink "TubBitesLaw" (23 : Nat) ({ cls := "TubBites", name := "tub", desc := "()I" } : Jvm.MethodName)) ∈ lw_all := lw_g (lw_at lw_m1 230 rfl) rfl
theorem q995 : (Jvm.Cond.methodLink "TubBitesLaw" (28 : Nat) ({ cls := "TubBites", name := "fault", desc := "(I)I" } : Jvm.MethodName)) ∈ lw_all := lw_g (lw_at lw_m4 131 rfl) rfl
theorem q999 : (Jvm.Cond.methodLink "TubBitesLaw" (32 : Nat) ({ cls := "TubBites", name := "apple", desc := "(II)I" } : Jvm.MethodName)) ∈ lw_all := lw_g (lw_at lw_m4 135 rfl) rfl
theorem q1012 : (Jvm.Cond.methodLink "TubBitesLaw" (37 : Nat) ({ cls := "TubBites", name := "bobber", desc := "(II)I" } : Jvm.MethodName)) ∈ lw_all := lw_g (lw_at lw_m4 148 rfl) rfl
theorem q1021 : (Jvm.Cond.methodLink "TubBitesLaw" (41 : Nat) ({ cls := "TubBites", name := "odds", desc := "(III)I" } : Jvm.MethodName)) ∈ lw_all := lw_g (lw_at lw_m4 157 rfl) rfl
theorem q1130 : (Jvm.Cond.methodLink "TubBitesLaw" (46 : Nat) ({ cls := "TubBites", name := "chooses", desc := "(I)I" } : Jvm.MethodName)) ∈ lw_all := lw_g (lw_at lw_m5 26 rfl) rfl
theorem q1153 : (Jvm.Cond.methodLink "TubBitesLaw" (50 : Nat) ({ cls := "TubBites", name := "go", desc := "(III)I" } : Jvm.MethodName)) ∈ lw_all := lw_g (lw_at lw_m5 49 rfl) rfl
theorem q1244 : (Jvm.Cond.methodLink "TubBitesLaw" (54 : Nat) ({ cls := "TubBites", name := "breathe", desc := "(I)I" } : Jvm.MethodName)) ∈ lw_all := lw_g (lw_at lw_m5 140 rfl) rfl
theorem q1252 : (Jvm.Cond.methodLink "TubBitesLaw" (58 : Nat) ({ cls := "TubBites", name := "wave", desc := "(I)I" } : Jvm.MethodName)) ∈ lw_all := lw_g (lw_at lw_m5 148 rfl) rfl
theorem q1264 : (Jvm.Cond.methodLink "TubBitesLaw" (62 : Nat) ({ cls := "TubBites", name := "party", desc := "(I)I" } : Jvm.MethodName)) ∈ lw_all := lw_g (lw_at lw_m5 160 rfl) rfl
theorem q1275 : (Jvm.Cond.methodLink "TubBitesLaw" (66 : Nat) ({ cls := "TubBites", name := "undo", desc := "()Z" } : Jvm.MethodName)) ∈ lw_all := lw_g (lw_at lw_m5 171 rfl) rfl
theorem q1291 : (Jvm.Cond.methodLink "TubBitesLaw" (71 : Nat) ({ cls := "TubBites", name := "redo", desc := "()Z" } : Jvm.MethodName)) ∈ lw_all := lw_g (lw_at lw_m5 187 rfl) rfl
theorem q1295 : (Jvm.Cond.methodLink "TubBitesLaw" (75 : Nat) ({ cls := "TubBites", name := "best", desc := "(III)I" } : Jvm.MethodName)) ∈ lw_all := lw_g (lw_at lw_m5 191 rfl) rfl
theorem q1312 : (Jvm.Cond.methodLink "TubBitesLaw" (79 : Nat) ({ cls := "TubBites", name := "match", desc := "(II)I" } : Jvm.MethodName)) ∈ lw_all := lw_g (lw_at lw_m5 208 rfl) rfl
theorem q1329 : (Jvm.Cond.methodLink "TubBitesLaw" (83 : Nat) ({ cls := "TubBites", name := "reply", desc := "(I)I" } : Jvm.MethodName)) ∈ lw_all := lw_g (lw_at lw_m5 225 rfl) rfl
theorem q1333 : (Jvm.Cond.methodLink "TubBitesLaw" (135 : Nat) ({ cls := "TubBites", name := "lies", desc := "(I)I" } : Jvm.MethodName)) ∈ lw_all := lw_g (lw_at lw_m5 229 rfl) rfl
theorem q1337 : (Jvm.Cond.methodLink "TubBitesLaw" (87 : Nat) ({ cls := "TubBites", name := "rests", desc := "()I" } : Jvm.MethodName)) ∈ lw_all := lw_g (lw_at lw_m5 233 rfl) rfl
theorem q1341 : (Jvm.Cond.methodLink "TubBitesLaw" (91 : Nat) ({ cls := "TubBites", name := "record", desc := "(III)I" } : Jvm.MethodName)) ∈ lw_all := lw_g (lw_at lw_m5 237 rfl) rfl
theorem q1345 : (Jvm.Cond.methodLink "TubBitesLaw" (95 : Nat) ({ cls := "TubBites", name := "easier", desc := "(II)I" } : Jvm.MethodName)) ∈ lw_all := lw_g (lw_at lw_m6 1 rfl) rfl
theorem q1350 : (Jvm.Cond.methodLink "TubBitesLaw" (99 : Nat) ({ cls := "TubBites", name := "seat", desc := "(III)I" } : Jvm.MethodName)) ∈ lw_all := lw_g (lw_at lw_m6 6 rfl) rfl
theorem q1359 : (Jvm.Cond.methodLink "TubBitesLaw" (103 : Nat) ({ cls := "TubBites", name := "order", desc := "(I)I" } : Jvm.MethodName)) ∈ lw_all := lw_g (lw_at lw_m6 15 rfl) rfl
theorem q1368 : (Jvm.Cond.methodLink "TubBitesLaw" (107 : Nat) ({ cls := "TubBites", name := "drives", desc := "(III)I" } : Jvm.MethodName)) ∈ lw_all := lw_g (lw_at lw_m6 24 rfl) rfl
theorem q1376 : (Jvm.Cond.methodLink "TubBitesLaw" (111 : Nat) ({ cls := "TubBites", name := "gone", desc := "(I)I" } : Jvm.MethodName)) ∈ lw_all := lw_g (lw_at lw_m6 32 rfl) rfl
theorem q1392 : (Jvm.Cond.methodLink "TubBitesLaw" (115 : Nat) ({ cls := "TubBites", name := "provide", desc := "(II)I" } : Jvm.MethodName)) ∈ lw_all := lw_g (lw_at lw_m6 48 rfl) rfl
theorem q1402 : (Jvm.Cond.methodLink "TubBitesLaw" (123 : Nat) ({ cls := "TubBites", name := "waves", desc := "(III)I" } : Jvm.MethodName)) ∈ lw_all := lw_g (lw_at lw_m6 58 rfl) rfl
theorem q1407 : (Jvm.Cond.methodLink "TubBitesLaw" (127 : Nat) ({ cls := "TubBites", name := "fill", desc := "(III)I" } : Jvm.MethodName)) ∈ lw_all := lw_g (lw_at lw_m6 63 rfl) rfl
theorem q1415 : (Jvm.Cond.methodLink "TubBitesLaw" (131 : Nat) ({ cls := "TubBites", name := "coin", desc := "(II)I" } : Jvm.MethodName)) ∈ lw_all := lw_g (lw_at lw_m6 71 rfl) rfl
theorem q1422 : (Jvm.Cond.methodLink "TubBitesLaw" (139 : Nat) ({ cls := "TubBites", name := "pick", desc := "(III)I" } : Jvm.MethodName)) ∈ lw_all := lw_g (lw_at lw_m6 78 rfl) rfl
theorem q1452 : (Jvm.Cond.methodLink "TubBitesLaw" (143 : Nat) ({ cls := "TubBites", name := "untell", desc := "(I)Z" } : Jvm.MethodName)) ∈ lw_all := lw_g (lw_at lw_m6 108 rfl) rfl
theorem q1456 : (Jvm.Cond.methodLink "TubBitesLaw" (148 : Nat) ({ cls := "TubBites", name := "later", desc := "(I)I" } : Jvm.MethodName)) ∈ lw_all := lw_g (lw_at lw_m6 112 rfl) rfl
theorem q1461 : (Jvm.Cond.methodLink "TubBitesLaw" (152 : Nat) ({ cls := "TubBites", name := "fits", desc := "(I)I" } : Jvm.MethodName)) ∈ lw_all := lw_g (lw_at lw_m6 117 rfl) rfl
theorem q1479 : (Jvm.Cond.methodLink "TubBitesLaw" (119 : Nat) ({ cls := "TubBites", name := "nearest", desc := "(II)I" } : Jvm.MethodName)) ∈ lw_all := lw_g (lw_at lw_m6 135 rfl) rfl
theorem q1483 : (Jvm.Cond.methodLink "TubBitesLaw" (156 : Nat) ({ cls := "TubBites", name := "chance", desc := "(I)J" } : Jvm.MethodName)) ∈ lw_all := lw_g (lw_at lw_m6 139 rfl) rfl
theorem q1488 : (Jvm.Cond.methodLink "TubBitesLaw" (161 : Nat) ({ cls := "TubBites", name := "image", desc := "(I)I" } : Jvm.MethodName)) ∈ lw_all := lw_g (lw_at lw_m6 144 rfl) rfl
theorem q1492 : (Jvm.Cond.methodLink "TubBitesLaw" (165 : Nat) ({ cls := "TubBites", name := "back", desc := "(I)I" } : Jvm.MethodName)) ∈ lw_all := lw_g (lw_at lw_m6 148 rfl) rfl
theorem q1496 : (Jvm.Cond.methodLink "TubBitesLaw" (169 : Nat) ({ cls := "TubBites", name := "about", desc := "(I)I" } : Jvm.MethodName)) ∈ lw_all := lw_g (lw_at lw_m6 152 rfl) rfl
theorem q1500 : (Jvm.Cond.classLink "TubBitesLaw" (10 : Nat) "TubBitesModel") ∈ lw_all := lw_g (lw_at lw_m6 156 rfl) rfl
theorem q1502 : (Jvm.Cond.methodLink "TubBitesLaw" (12 : Nat) ({ cls := "TubBitesModel", name := "<init>", desc := "()V" } : Jvm.MethodName)) ∈ lw_all := lw_g (lw_at lw_m6 158 rfl) rfl
theorem q1794 : (Jvm.Cond.methodLink "TubBitesLaw" (17 : Nat) ({ cls := "TubBitesModel", name := "feed", desc := "(IIIII)I" } : Jvm.MethodName)) ∈ lw_all := lw_g (lw_at lw_m7 210 rfl) rfl
theorem q1802 : (Jvm.Cond.methodLink "TubBitesLaw" (22 : Nat) ({ cls := "TubBitesModel", name := "end", desc := "(I)I" } : Jvm.MethodName)) ∈ lw_all := lw_g (lw_at lw_m7 218 rfl) rfl
theorem q1806 : (Jvm.Cond.methodLink "TubBitesLaw" (27 : Nat) ({ cls := "TubBitesModel", name := "tub", desc := "()I" } : Jvm.MethodName)) ∈ lw_all := lw_g (lw_at lw_m7 222 rfl) rfl
theorem q1996 : (Jvm.Cond.methodLink "TubBitesLaw" (31 : Nat) ({ cls := "TubBitesModel", name := "fault", desc := "(I)I" } : Jvm.MethodName)) ∈ lw_all := lw_g (lw_at lw_m8 172 rfl) rfl
theorem q2000 : (Jvm.Cond.methodLink "TubBitesLaw" (36 : Nat) ({ cls := "TubBitesModel", name := "apple", desc := "(II)I" } : Jvm.MethodName)) ∈ lw_all := lw_g (lw_at lw_m8 176 rfl) rfl
theorem q2011 : (Jvm.Cond.methodLink "TubBitesLaw" (40 : Nat) ({ cls := "TubBitesModel", name := "bobber", desc := "(II)I" } : Jvm.MethodName)) ∈ lw_all := lw_g (lw_at lw_m8 187 rfl) rfl
theorem q2019 : (Jvm.Cond.methodLink "TubBitesLaw" (45 : Nat) ({ cls := "TubBitesModel", name := "odds", desc := "(III)I" } : Jvm.MethodName)) ∈ lw_all := lw_g (lw_at lw_m8 195 rfl) rfl
theorem q2083 : (Jvm.Cond.methodLink "TubBitesLaw" (49 : Nat) ({ cls := "TubBitesModel", name := "chooses", desc := "(I)I" } : Jvm.MethodName)) ∈ lw_all := lw_g (lw_at lw_m9 19 rfl) rfl
theorem q2094 : (Jvm.Cond.methodLink "TubBitesLaw" (53 : Nat) ({ cls := "TubBitesModel", name := "go", desc := "(III)I" } : Jvm.MethodName)) ∈ lw_all := lw_g (lw_at lw_m9 30 rfl) rfl
theorem q2129 : (Jvm.Cond.methodLink "TubBitesLaw" (57 : Nat) ({ cls := "TubBitesModel", name := "breathe", desc := "(I)I" } : Jvm.MethodName)) ∈ lw_all := lw_g (lw_at lw_m9 65 rfl) rfl
theorem q2137 : (Jvm.Cond.methodLink "TubBitesLaw" (61 : Nat) ({ cls := "TubBitesModel", name := "wave", desc := "(I)I" } : Jvm.MethodName)) ∈ lw_all := lw_g (lw_at lw_m9 73 rfl) rfl
theorem q2149 : (Jvm.Cond.methodLink "TubBitesLaw" (65 : Nat) ({ cls := "TubBitesModel", name := "party", desc := "(I)I" } : Jvm.MethodName)) ∈ lw_all := lw_g (lw_at lw_m9 85 rfl) rfl
theorem q2157 : (Jvm.Cond.methodLink "TubBitesLaw" (70 : Nat) ({ cls := "TubBitesModel", name := "undo", desc := "()Z" } : Jvm.MethodName)) ∈ lw_all := lw_g (lw_at lw_m9 93 rfl) rfl
theorem q2165 : (Jvm.Cond.methodLink "TubBitesLaw" (74 : Nat) ({ cls := "TubBitesModel", name := "redo", desc := "()Z" } : Jvm.MethodName)) ∈ lw_all := lw_g (lw_at lw_m9 101 rfl) rfl
theorem q2169 : (Jvm.Cond.methodLink "TubBitesLaw" (78 : Nat) ({ cls := "TubBitesModel", name := "best", desc := "(III)I" } : Jvm.MethodName)) ∈ lw_all := lw_g (lw_at lw_m9 105 rfl) rfl
theorem q2194 : (Jvm.Cond.methodLink "TubBitesLaw" (94 : Nat) ({ cls := "TubBitesModel", name := "record", desc := "(III)I" } : Jvm.MethodName)) ∈ lw_all := lw_g (lw_at lw_m9 130 rfl) rfl
theorem q2198 : (Jvm.Cond.methodLink "TubBitesLaw" (98 : Nat) ({ cls := "TubBitesModel", name := "easier", desc := "(II)I" } : Jvm.MethodName)) ∈ lw_all := lw_g (lw_at lw_m9 134 rfl) rfl
theorem q2202 : (Jvm.Cond.methodLink "TubBitesLaw" (102 : Nat) ({ cls := "TubBitesModel", name := "seat", desc := "(III)I" } : Jvm.MethodName)) ∈ lw_all := lw_g (lw_at lw_m9 138 rfl) rfl
theorem q2210 : (Jvm.Cond.methodLink "TubBitesLaw" (106 : Nat) ({ cls := "TubBitesModel", name := "order", desc := "(I)I" } : Jvm.MethodName)) ∈ lw_all := lw_g (lw_at lw_m9 146 rfl) rfl
theorem q2218 : (Jvm.Cond.methodLink "TubBitesLaw" (110 : Nat) ({ cls := "TubBitesModel", name := "drives", desc := "(III)I" } : Jvm.MethodName)) ∈ lw_all := lw_g (lw_at lw_m9 154 rfl) rfl
theorem q2226 : (Jvm.Cond.methodLink "TubBitesLaw" (114 : Nat) ({ cls := "TubBitesModel", name := "gone", desc := "(I)I" } : Jvm.MethodName)) ∈ lw_all := lw_g (lw_at lw_m9 162 rfl) rfl
theorem q2242 : (Jvm.Cond.methodLink "TubBitesLaw" (118 : Nat) ({ cls := "TubBitesModel", name := "provide", desc := "(II)I" } : Jvm.MethodName)) ∈ lw_all := lw_g (lw_at lw_m9 178 rfl) rfl
theorem q2249 : (Jvm.Cond.methodLink "TubBitesLaw" (82 : Nat) ({ cls := "TubBitesModel", name := "match", desc := "(II)I" } : Jvm.MethodName)) ∈ lw_all := lw_g (lw_at lw_m9 185 rfl) rfl
theorem q2262 : (Jvm.Cond.methodLink "TubBitesLaw" (86 : Nat) ({ cls := "TubBitesModel", name := "reply", desc := "(I)I" } : Jvm.MethodName)) ∈ lw_all := lw_g (lw_at lw_m9 198 rfl) rfl
theorem q2266 : (Jvm.Cond.methodLink "TubBitesLaw" (90 : Nat) ({ cls := "TubBitesModel", name := "rests", desc := "()I" } : Jvm.MethodName)) ∈ lw_all := lw_g (lw_at lw_m9 202 rfl) rfl
theorem q2274 : (Jvm.Cond.methodLink "TubBitesLaw" (126 : Nat) ({ cls := "TubBitesModel", name := "waves", desc := "(III)I" } : Jvm.MethodName)) ∈ lw_all := lw_g (lw_at lw_m9 210 rfl) rfl
theorem q2282 : (Jvm.Cond.methodLink "TubBitesLaw" (130 : Nat) ({ cls := "TubBitesModel", name := "fill", desc := "(III)I" } : Jvm.MethodName)) ∈ lw_all := lw_g (lw_at lw_m9 218 rfl) rfl
theorem q2290 : (Jvm.Cond.methodLink "TubBitesLaw" (134 : Nat) ({ cls := "TubBitesModel", name := "coin", desc := "(II)I" } : Jvm.MethodName)) ∈ lw_all := lw_g (lw_at lw_m9 226 rfl) rfl
theorem q2297 : (Jvm.Cond.methodLink "TubBitesLaw" (138 : Nat) ({ cls := "TubBitesModel", name := "lies", desc := "(I)I" } : Jvm.MethodName)) ∈ lw_all := lw_g (lw_at lw_m9 233 rfl) rfl
theorem q2301 : (Jvm.Cond.methodLink "TubBitesLaw" (142 : Nat) ({ cls := "TubBitesModel", name := "pick", desc := "(III)I" } : Jvm.MethodName)) ∈ lw_all := lw_g (lw_at lw_m9 237 rfl) rfl
theorem q2305 : (Jvm.Cond.methodLink "TubBitesLaw" (147 : Nat) ({ cls := "TubBitesModel", name := "untell", desc := "(I)Z" } : Jvm.MethodName)) ∈ lw_all := lw_g (lw_at lw_m10 1 rfl) rfl
theorem q2309 : (Jvm.Cond.methodLink "TubBitesLaw" (151 : Nat) ({ cls := "TubBitesModel", name := "later", desc := "(I)I" } : Jvm.MethodName)) ∈ lw_all := lw_g (lw_at lw_m10 5 rfl) rfl
theorem q2314 : (Jvm.Cond.methodLink "TubBitesLaw" (155 : Nat) ({ cls := "TubBitesModel", name := "fits", desc := "(I)I" } : Jvm.MethodName)) ∈ lw_all := lw_g (lw_at lw_m10 10 rfl) rfl
theorem q2326 : (Jvm.Cond.methodLink "TubBitesLaw" (122 : Nat) ({ cls := "TubBitesModel", name := "nearest", desc := "(II)I" } : Jvm.MethodName)) ∈ lw_all := lw_g (lw_at lw_m10 22 rfl) rfl
theorem q2334 : (Jvm.Cond.methodLink "TubBitesLaw" (160 : Nat) ({ cls := "TubBitesModel", name := "chance", desc := "(I)J" } : Jvm.MethodName)) ∈ lw_all := lw_g (lw_at lw_m10 30 rfl) rfl
theorem q2339 : (Jvm.Cond.methodLink "TubBitesLaw" (164 : Nat) ({ cls := "TubBitesModel", name := "image", desc := "(I)I" } : Jvm.MethodName)) ∈ lw_all := lw_g (lw_at lw_m10 35 rfl) rfl
theorem q2346 : (Jvm.Cond.methodLink "TubBitesLaw" (168 : Nat) ({ cls := "TubBitesModel", name := "back", desc := "(I)I" } : Jvm.MethodName)) ∈ lw_all := lw_g (lw_at lw_m10 42 rfl) rfl
theorem q2350 : (Jvm.Cond.methodLink "TubBitesLaw" (172 : Nat) ({ cls := "TubBitesModel", name := "about", desc := "(I)I" } : Jvm.MethodName)) ∈ lw_all := lw_g (lw_at lw_m10 46 rfl) rfl

theorem q2398 : (Jvm.Cond.castable "[B" "java/lang/Object") ∈ lw_tbl := lw_at lw_m10 94 rfl
set_option maxRecDepth 100000

theorem q2396 : (Jvm.Cond.castable "[I" "java/lang/Object") ∈ lw_tbl := lw_at lw_m10 92 rfl
set_option maxRecDepth 100000

theorem q2400 : (Jvm.Cond.castable "[J" "java/lang/Object") ∈ lw_tbl := lw_at lw_m10 96 rfl
set_option maxRecDepth 100000

theorem q2397 : (Jvm.Cond.castable "[LTubBites$Kept;" "java/lang/Object") ∈ lw_tbl := lw_at lw_m10 93 rfl
set_option maxRecDepth 100000

theorem q2395 : (Jvm.Cond.castable "[LTubBites$Part;" "java/lang/Object") ∈ lw_tbl := lw_at lw_m10 91 rfl
set_option maxRecDepth 100000

theorem q2403 : (Jvm.Cond.castable "[LTubBites$Try;" "java/lang/Object") ∈ lw_tbl := lw_at lw_m10 99 rfl
set_option maxRecDepth 100000

theorem q2392 : (Jvm.Cond.sameMethod "[Ljava/lang/Object;" "java/lang/Object" "getClass" "()Ljava/lang/Class;") ∈ lw_all := lw_g (lw_at lw_m10 88 rfl) rfl
set_option maxRecDepth 100000
theorem q2393 : (Jvm.Cond.selects "[Ljava/lang/Object;" ({ cls := "java/lang/Object", name := "getClass", desc := "()Ljava/lang/Class;" } : Jvm.MethodName) ({ cls := "java/lang/Object", name := "getClass", desc := "()Ljava/lang/Class;" } : Jvm.MethodName)) ∈ lw_all := lw_g (lw_at lw_m10 89 rfl) rfl
theorem q2399 : (Jvm.Cond.castable "[Ljava/lang/Object;" "java/lang/Object") ∈ lw_tbl := lw_at lw_m10 95 rfl

theorem q2402 : (Jvm.Cond.castable "[Ljava/lang/String;" "java/lang/Object") ∈ lw_tbl := lw_at lw_m10 98 rfl
set_option maxRecDepth 100000

theorem q2401 : (Jvm.Cond.castable "[Z" "java/lang/Object") ∈ lw_tbl := lw_at lw_m10 97 rfl
set_option maxRecDepth 100000

theorem q171 : (Jvm.Cond.initialized "java/lang/System") ∈ lw_all := lw_g (lw_at lw_m1 27 rfl) rfl
set_option maxRecDepth 100000
theorem q810 : (Jvm.Cond.static ({ cls := "java/lang/System", name := "arraycopy", desc := "(Ljava/lang/Object;ILjava/lang/Object;II)V" } : Jvm.MethodName)) ∈ lw_all := lw_g (lw_at lw_m3 186 rfl) rfl
theorem q811 : (Jvm.Cond.native ({ cls := "java/lang/System", name := "arraycopy", desc := "(Ljava/lang/Object;ILjava/lang/Object;II)V" } : Jvm.MethodName)) ∈ lw_all := lw_g (lw_at lw_m3 187 rfl) rfl

theorem q191 : (Jvm.Cond.arrayOver (Jvm.ClassFile.FieldType.object "TubBites$Part")) ∈ lw_tbl := lw_at lw_m1 47 rfl
set_option maxRecDepth 100000
theorem q230 : (Jvm.Cond.arrayClass Jvm.ClassFile.FieldType.int) ∈ lw_all := lw_g (lw_at lw_m1 86 rfl) rfl
theorem q293 : (Jvm.Cond.arrayOver (Jvm.ClassFile.FieldType.object "TubBites$Kept")) ∈ lw_tbl := lw_at lw_m1 149 rfl
theorem q304 : (Jvm.Cond.arrayClass Jvm.ClassFile.FieldType.byte) ∈ lw_all := lw_g (lw_at lw_m1 160 rfl) rfl
theorem q804 : (Jvm.Cond.arrayOver (Jvm.ClassFile.FieldType.object "java/lang/Object")) ∈ lw_tbl := lw_at lw_m3 180 rfl
theorem q1792 : (Jvm.Cond.arrayClass Jvm.ClassFile.FieldType.long) ∈ lw_all := lw_g (lw_at lw_m7 208 rfl) rfl
theorem q1793 : (Jvm.Cond.arrayClass Jvm.ClassFile.FieldType.boolean) ∈ lw_all := lw_g (lw_at lw_m7 209 rfl) rfl
theorem q2413 : (Jvm.Cond.arrayOver (Jvm.ClassFile.FieldType.object "java/lang/String")) ∈ lw_tbl := lw_at lw_m10 109 rfl
