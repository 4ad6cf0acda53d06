/-! TubBitesModel -/
set_option maxRecDepth 100000
def RX4 : String := "TubBitesModel"
def TX4 : u_T := fun k => match k with
  | 0 => ("TubBitesModel", "tape", "[I", true)
  | 1 => ("TubBitesModel", "taped", "I", false)
  | 2 => ("TubBitesModel", "fault", "I", false)
  | 3 => ("TubBitesModel", "faultPlace", "I", false)
  | 4 => ("TubBitesModel", "at", "I", false)
  | 5 => ("TubBitesModel", "size", "I", false)
  | 6 => ("TubBitesModel", "sort", "I", false)
  | 7 => ("TubBitesModel", "place", "I", false)
  | 8 => ("TubBitesModel", "number", "I", false)
  | 9 => ("TubBitesModel", "word", "J", false)
  | 10 => ("TubBitesModel", "nStep", "[I", true)
  | 11 => ("TubBitesModel", "nArg", "[I", true)
  | 12 => ("TubBitesModel", "nMany", "[I", true)
  | 13 => ("TubBitesModel", "step", "[I", true)
  | 14 => ("TubBitesModel", "arg", "[I", true)
  | 15 => ("TubBitesModel", "many", "[I", true)
  | 16 => ("TubBitesModel", "open", "[I", true)
  | 17 => ("TubBitesModel", "values", "[I", true)
  | 18 => ("TubBitesModel", "form", "I", false)
  | 19 => ("TubBitesModel", "opens", "I", false)
  | 20 => ("TubBitesModel", "nUnits", "I", false)
  | 21 => ("TubBitesModel", "units", "I", false)
  | 22 => ("TubBitesModel", "ownUnits", "I", false)
  | 23 => ("TubBitesModel", "deep", "I", false)
  | 24 => ("TubBitesModel", "nName", "[J", true)
  | 25 => ("TubBitesModel", "nSize", "[I", true)
  | 26 => ("TubBitesModel", "nSoft", "[I", true)
  | 27 => ("TubBitesModel", "nX", "[I", true)
  | 28 => ("TubBitesModel", "nY", "[I", true)
  | 29 => ("TubBitesModel", "nCoin", "[I", true)
  | 30 => ("TubBitesModel", "nBobX", "[I", true)
  | 31 => ("TubBitesModel", "nBobY", "[I", true)
  | 32 => ("TubBitesModel", "nReach", "[I", true)
  | 33 => ("TubBitesModel", "nBreath", "[I", true)
  | 34 => ("TubBitesModel", "nMouth", "[I", true)
  | 35 => ("TubBitesModel", "nRule", "[I", true)
  | 36 => ("TubBitesModel", "nStalk", "[Z", true)
  | 37 => ("TubBitesModel", "apSize", "[I", true)
  | 38 => ("TubBitesModel", "apSoft", "[I", true)
  | 39 => ("TubBitesModel", "apX", "[I", true)
  | 40 => ("TubBitesModel", "apY", "[I", true)
  | 41 => ("TubBitesModel", "apCoin", "[I", true)
  | 42 => ("TubBitesModel", "bobX", "[I", true)
  | 43 => ("TubBitesModel", "bobY", "[I", true)
  | 44 => ("TubBitesModel", "bobReach", "[I", true)
  | 45 => ("TubBitesModel", "bobBreath", "[I", true)
  | 46 => ("TubBitesModel", "bobMouth", "[I", true)
  | 47 => ("TubBitesModel", "bobRule", "[I", true)
  | 48 => ("TubBitesModel", "apStalk", "[Z", true)
  | 49 => ("TubBitesModel", "nAcross", "I", false)
  | 50 => ("TubBitesModel", "nUp", "I", false)
  | 51 => ("TubBitesModel", "nOdds", "I", false)
  | 52 => ("TubBitesModel", "nRules", "I", false)
  | 53 => ("TubBitesModel", "nApples", "I", false)
  | 54 => ("TubBitesModel", "nBobbers", "I", false)
  | 55 => ("TubBitesModel", "nDraw", "I", false)
  | 56 => ("TubBitesModel", "across", "I", false)
  | 57 => ("TubBitesModel", "up", "I", false)
  | 58 => ("TubBitesModel", "oddsTold", "I", false)
  | 59 => ("TubBitesModel", "rules", "I", false)
  | 60 => ("TubBitesModel", "apples", "I", false)
  | 61 => ("TubBitesModel", "bobbers", "I", false)
  | 62 => ("TubBitesModel", "nHasDraw", "Z", false)
  | 63 => ("TubBitesModel", "nHasBite", "Z", false)
  | 64 => ("TubBitesModel", "nBite", "I", false)
  | 65 => ("TubBitesModel", "bite", "I", false)
  | 66 => ("TubBitesModel", "w", "[I", true)
  | 67 => ("TubBitesModel", "now", "[I", true)
  | 68 => ("TubBitesModel", "sx", "I", false)
  | 69 => ("TubBitesModel", "sy", "I", false)
  | 70 => ("TubBitesModel", "were", "[I", true)
  | 71 => ("TubBitesModel", "acts", "I", false)
  | 72 => ("TubBitesModel", "undone", "I", false)
  | 73 => ("TubBitesModel", "rows", "[I", true)
  | 74 => ("TubBitesModel", "left", "[I", true)
  | 75 => ("TubBitesModel", "way", "[I", true)
  | 76 => ("TubBitesModel", "phase", "[I", true)
  | 77 => ("TubBitesModel", "gotten", "[I", true)
  | 78 => ("TubBitesModel", "most", "[I", true)
  | 79 => ("TubBitesModel", "first", "[I", true)
  | 80 => ("TubBitesModel", "looks", "I", false)
  | 81 => ("TubBitesModel", "turn", "[I", true)
  | 82 => ("TubBitesModel", "driven", "[I", true)
  | 83 => ("TubBitesModel", "lies", "[I", true)
  | 84 => ("TubBitesModel", "matches", "[I", true)
  | 85 => ("TubBitesModel", "lain", "I", false)
  | 86 => ("TubBitesModel", "pickBob", "[I", true)
  | 87 => ("TubBitesModel", "pickSet", "[I", true)
  | 88 => ("TubBitesModel", "pickTaken", "[I", true)
  | 89 => ("TubBitesModel", "pickTold", "[I", true)
  | 90 => ("TubBitesModel", "pickUntold", "[I", true)
  | 91 => ("TubBitesModel", "picks", "I", false)
  | 92 => ("TubBitesModel", "time", "I", false)
  | 93 => ("TubBitesModel", "hasBox", "[Z", true)
  | _ => ("TubBitesModel", "boxes", "[I", true)
def tyX4 : Nat → FieldType := fun k => match k with
  | 0 => .array .int
  | 1 => .int
  | 2 => .int
  | 3 => .int
  | 4 => .int
  | 5 => .int
  | 6 => .int
  | 7 => .int
  | 8 => .int
  | 9 => .long
  | 10 => .array .int
  | 11 => .array .int
  | 12 => .array .int
  | 13 => .array .int
  | 14 => .array .int
  | 15 => .array .int
  | 16 => .array .int
  | 17 => .array .int
  | 18 => .int
  | 19 => .int
  | 20 => .int
  | 21 => .int
  | 22 => .int
  | 23 => .int
  | 24 => .array .long
  | 25 => .array .int
  | 26 => .array .int
  | 27 => .array .int
  | 28 => .array .int
  | 29 => .array .int
  | 30 => .array .int
  | 31 => .array .int
  | 32 => .array .int
  | 33 => .array .int
  | 34 => .array .int
  | 35 => .array .int
  | 36 => .array .boolean
  | 37 => .array .int
  | 38 => .array .int
  | 39 => .array .int
  | 40 => .array .int
  | 41 => .array .int
  | 42 => .array .int
  | 43 => .array .int
  | 44 => .array .int
  | 45 => .array .int
  | 46 => .array .int
  | 47 => .array .int
  | 48 => .array .boolean
  | 49 => .int
  | 50 => .int
  | 51 => .int
  | 52 => .int
  | 53 => .int
  | 54 => .int
  | 55 => .int
  | 56 => .int
  | 57 => .int
  | 58 => .int
  | 59 => .int
  | 60 => .int
  | 61 => .int
  | 62 => .boolean
  | 63 => .boolean
  | 64 => .int
  | 65 => .int
  | 66 => .array .int
  | 67 => .array .int
  | 68 => .int
  | 69 => .int
  | 70 => .array .int
  | 71 => .int
  | 72 => .int
  | 73 => .array .int
  | 74 => .array .int
  | 75 => .array .int
  | 76 => .array .int
  | 77 => .array .int
  | 78 => .array .int
  | 79 => .array .int
  | 80 => .int
  | 81 => .array .int
  | 82 => .array .int
  | 83 => .array .int
  | 84 => .array .int
  | 85 => .int
  | 86 => .array .int
  | 87 => .array .int
  | 88 => .array .int
  | 89 => .array .int
  | 90 => .array .int
  | 91 => .int
  | 92 => .int
  | 93 => .array .boolean
  | _ => .array .int
abbrev wsX40 : List Cond := u_ws RX4 TX4 95
set_option maxRecDepth 100000 in
theorem nmX4 : ∀ a, a < 95 → ∀ b, b < 95 → a ≠ b → (TX4 a).2.1 ≠ (TX4 b).2.1 := by decide +kernel
set_option maxRecDepth 100000 in
theorem tyX4_ok : ∀ k, k < 95 → parseFieldDescriptor (TX4 k).2.2.1 = some (tyX4 k) := by decide +kernel
abbrev cX4_init : ByteArray := prog_23_method_1_code
def yX4_init : MethodName := ⟨RX4, "<init>", "()V"⟩
def dkwX4_init_19 : List UInt8 := [181, 0, 181, 177]
abbrev dktX4_init_19 : List UInt8 := dkwX4_init_19 ++ []
def dkwX4_init_18 : List UInt8 := [181, 0, 172, 42, 16, 30, 188, 10, 181, 0, 175, 42, 6, 188, 4, 181, 0, 178, 42, 17, 1, 128, 188, 10]
abbrev dktX4_init_18 : List UInt8 := dkwX4_init_18 ++ dktX4_init_19
def dkwX4_init_17 : List UInt8 := [181, 0, 163, 42, 16, 30, 188, 10, 181, 0, 166, 42, 16, 30, 188, 10, 181, 0, 169, 42, 16, 30, 188, 10]
abbrev dktX4_init_17 : List UInt8 := dkwX4_init_17 ++ dktX4_init_18
def dkwX4_init_16 : List UInt8 := [181, 0, 154, 42, 16, 40, 188, 10, 181, 0, 157, 42, 16, 36, 188, 10, 181, 0, 160, 42, 16, 30, 188, 10]
abbrev dktX4_init_16 : List UInt8 := dkwX4_init_16 ++ dktX4_init_17
def dkwX4_init_15 : List UInt8 := [188, 10, 181, 0, 145, 42, 16, 16, 188, 10, 181, 0, 148, 42, 7, 188, 10, 181, 0, 151, 42, 7, 188, 10]
abbrev dktX4_init_15 : List UInt8 := dkwX4_init_15 ++ dktX4_init_16
def dkwX4_init_14 : List UInt8 := [188, 10, 181, 0, 136, 42, 16, 16, 188, 10, 181, 0, 139, 42, 16, 16, 188, 10, 181, 0, 142, 42, 16, 16]
abbrev dktX4_init_14 : List UInt8 := dkwX4_init_14 ++ dktX4_init_15
def dkwX4_init_13 : List UInt8 := [181, 0, 127, 42, 17, 8, 0, 188, 10, 181, 0, 130, 42, 16, 16, 188, 10, 181, 0, 133, 42, 16, 16]
abbrev dktX4_init_13 : List UInt8 := dkwX4_init_13 ++ dktX4_init_14
def dkwX4_init_12 : List UInt8 := [17, 0, 128, 188, 10, 181, 0, 121, 42, 17, 0, 128, 188, 10, 181, 0, 124, 42, 17, 20, 0, 188, 10]
abbrev dktX4_init_12 : List UInt8 := dkwX4_init_12 ++ dktX4_init_13
def dkwX4_init_11 : List UInt8 := [42, 7, 188, 10, 181, 0, 112, 42, 16, 10, 188, 4, 181, 0, 115, 42, 16, 10, 181, 0, 118, 42]
abbrev dktX4_init_11 : List UInt8 := dkwX4_init_11 ++ dktX4_init_12
def dkwX4_init_10 : List UInt8 := [181, 0, 100, 42, 7, 188, 10, 181, 0, 103, 42, 7, 188, 10, 181, 0, 106, 42, 7, 188, 10, 181, 0, 109]
abbrev dktX4_init_10 : List UInt8 := dkwX4_init_10 ++ dktX4_init_11
def dkwX4_init_9 : List UInt8 := [181, 0, 91, 42, 16, 10, 188, 10, 181, 0, 94, 42, 7, 188, 10, 181, 0, 97, 42, 7, 188, 10]
abbrev dktX4_init_9 : List UInt8 := dkwX4_init_9 ++ dktX4_init_10
def dkwX4_init_8 : List UInt8 := [181, 0, 82, 42, 16, 10, 188, 10, 181, 0, 85, 42, 16, 10, 188, 10, 181, 0, 88, 42, 16, 10, 188, 10]
abbrev dktX4_init_8 : List UInt8 := dkwX4_init_8 ++ dktX4_init_9
def dkwX4_init_7 : List UInt8 := [181, 0, 72, 42, 7, 188, 10, 181, 0, 75, 42, 16, 10, 188, 4, 181, 0, 78, 42, 16, 10, 188, 10]
abbrev dktX4_init_7 : List UInt8 := dkwX4_init_7 ++ dktX4_init_8
def dkwX4_init_6 : List UInt8 := [7, 188, 10, 181, 0, 63, 42, 7, 188, 10, 181, 0, 66, 42, 7, 188, 10, 181, 0, 69, 42, 7, 188, 10]
abbrev dktX4_init_6 : List UInt8 := dkwX4_init_6 ++ dktX4_init_7
def dkwX4_init_5 : List UInt8 := [42, 16, 10, 188, 10, 181, 0, 54, 42, 16, 10, 188, 10, 181, 0, 57, 42, 7, 188, 10, 181, 0, 60, 42]
abbrev dktX4_init_5 : List UInt8 := dkwX4_init_5 ++ dktX4_init_6
def dkwX4_init_4 : List UInt8 := [42, 16, 10, 188, 10, 181, 0, 45, 42, 16, 10, 188, 10, 181, 0, 48, 42, 16, 10, 188, 10, 181, 0, 51]
abbrev dktX4_init_4 : List UInt8 := dkwX4_init_4 ++ dktX4_init_5
def dkwX4_init_3 : List UInt8 := [17, 0, 160, 188, 10, 181, 0, 35, 42, 16, 64, 188, 10, 181, 0, 38, 42, 16, 20, 188, 11, 181, 0, 41]
abbrev dktX4_init_3 : List UInt8 := dkwX4_init_3 ++ dktX4_init_4
def dkwX4_init_2 : List UInt8 := [188, 10, 181, 0, 26, 42, 17, 13, 192, 188, 10, 181, 0, 29, 42, 16, 11, 188, 10, 181, 0, 32, 42]
abbrev dktX4_init_2 : List UInt8 := dkwX4_init_2 ++ dktX4_init_3
def dkwX4_init_1 : List UInt8 := [181, 0, 17, 42, 17, 13, 192, 188, 10, 181, 0, 20, 42, 16, 11, 188, 10, 181, 0, 23, 42, 17, 13, 192]
abbrev dktX4_init_1 : List UInt8 := dkwX4_init_1 ++ dktX4_init_2
def dkwX4_init_0 : List UInt8 := [42, 183, 0, 1, 42, 17, 6, 64, 188, 10, 181, 0, 7, 42, 2, 181, 0, 13, 42, 17, 13, 192, 188, 10]
abbrev dktX4_init_0 : List UInt8 := dkwX4_init_0 ++ dktX4_init_1
theorem dksX4_init_0 : cX4_init.data.toList.drop 0 = dktX4_init_0 := by decide +kernel
theorem dksX4_init_1 : cX4_init.data.toList.drop 24 = dktX4_init_1 := dk_seg dksX4_init_0 24 rfl rfl
theorem dksX4_init_2 : cX4_init.data.toList.drop 48 = dktX4_init_2 := dk_seg dksX4_init_1 24 rfl rfl
theorem dksX4_init_3 : cX4_init.data.toList.drop 71 = dktX4_init_3 := dk_seg dksX4_init_2 23 rfl rfl
theorem dksX4_init_4 : cX4_init.data.toList.drop 95 = dktX4_init_4 := dk_seg dksX4_init_3 24 rfl rfl
theorem dksX4_init_5 : cX4_init.data.toList.drop 119 = dktX4_init_5 := dk_seg dksX4_init_4 24 rfl rfl
theorem dksX4_init_6 : cX4_init.data.toList.drop 143 = dktX4_init_6 := dk_seg dksX4_init_5 24 rfl rfl
theorem dksX4_init_7 : cX4_init.data.toList.drop 167 = dktX4_init_7 := dk_seg dksX4_init_6 24 rfl rfl
theorem dksX4_init_8 : cX4_init.data.toList.drop 190 = dktX4_init_8 := dk_seg dksX4_init_7 23 rfl rfl
theorem dksX4_init_9 : cX4_init.data.toList.drop 214 = dktX4_init_9 := dk_seg dksX4_init_8 24 rfl rfl
theorem dksX4_init_10 : cX4_init.data.toList.drop 236 = dktX4_init_10 := dk_seg dksX4_init_9 22 rfl rfl
theorem dksX4_init_11 : cX4_init.data.toList.drop 260 = dktX4_init_11 := dk_seg dksX4_init_10 24 rfl rfl
theorem dksX4_init_12 : cX4_init.data.toList.drop 282 = dktX4_init_12 := dk_seg dksX4_init_11 22 rfl rfl
theorem dksX4_init_13 : cX4_init.data.toList.drop 305 = dktX4_init_13 := dk_seg dksX4_init_12 23 rfl rfl
theorem dksX4_init_14 : cX4_init.data.toList.drop 328 = dktX4_init_14 := dk_seg dksX4_init_13 23 rfl rfl
theorem dksX4_init_15 : cX4_init.data.toList.drop 352 = dktX4_init_15 := dk_seg dksX4_init_14 24 rfl rfl
theorem dksX4_init_16 : cX4_init.data.toList.drop 376 = dktX4_init_16 := dk_seg dksX4_init_15 24 rfl rfl
theorem dksX4_init_17 : cX4_init.data.toList.drop 400 = dktX4_init_17 := dk_seg dksX4_init_16 24 rfl rfl
theorem dksX4_init_18 : cX4_init.data.toList.drop 424 = dktX4_init_18 := dk_seg dksX4_init_17 24 rfl rfl
theorem dksX4_init_19 : cX4_init.data.toList.drop 448 = dktX4_init_19 := dk_seg dksX4_init_18 24 rfl rfl
theorem dX4_init_0 : decode cX4_init 0 = .ok (.aload_n 0, 1) := dk_42 (dk_at dksX4_init_0 0 rfl rfl)
theorem dX4_init_1 : decode cX4_init 1 = .ok (.invokespecial 1, 3) := dk_183 0 1 (dk_at dksX4_init_0 1 rfl rfl)
theorem dX4_init_4 : decode cX4_init 4 = .ok (.aload_n 0, 1) := dk_42 (dk_at dksX4_init_0 4 rfl rfl)
theorem dX4_init_5 : decode cX4_init 5 = .ok (.sipush 1600, 3) := dk_17 6 64 (dk_at dksX4_init_0 5 rfl rfl)
theorem dX4_init_8 : decode cX4_init 8 = .ok (.newarray .int, 2) := dk_188_10 (dk_at dksX4_init_0 8 rfl rfl)
theorem dX4_init_10 : decode cX4_init 10 = .ok (.putfield 7, 3) := dk_181 0 7 (dk_at dksX4_init_0 10 rfl rfl)
theorem dX4_init_13 : decode cX4_init 13 = .ok (.aload_n 0, 1) := dk_42 (dk_at dksX4_init_0 13 rfl rfl)
theorem dX4_init_14 : decode cX4_init 14 = .ok (.iconst (-1), 1) := dk_2 (dk_at dksX4_init_0 14 rfl rfl)
theorem dX4_init_15 : decode cX4_init 15 = .ok (.putfield 13, 3) := dk_181 0 13 (dk_at dksX4_init_0 15 rfl rfl)
theorem dX4_init_18 : decode cX4_init 18 = .ok (.aload_n 0, 1) := dk_42 (dk_at dksX4_init_0 18 rfl rfl)
theorem dX4_init_19 : decode cX4_init 19 = .ok (.sipush 3520, 3) := dk_17 13 192 (dk_at dksX4_init_0 19 rfl rfl)
theorem dX4_init_22 : decode cX4_init 22 = .ok (.newarray .int, 2) := dk_188_10 (dk_at dksX4_init_0 22 rfl rfl)
theorem dX4_init_24 : decode cX4_init 24 = .ok (.putfield 17, 3) := dk_181 0 17 (dk_at dksX4_init_1 0 rfl rfl)
theorem dX4_init_27 : decode cX4_init 27 = .ok (.aload_n 0, 1) := dk_42 (dk_at dksX4_init_1 3 rfl rfl)
theorem dX4_init_28 : decode cX4_init 28 = .ok (.sipush 3520, 3) := dk_17 13 192 (dk_at dksX4_init_1 4 rfl rfl)
theorem dX4_init_31 : decode cX4_init 31 = .ok (.newarray .int, 2) := dk_188_10 (dk_at dksX4_init_1 7 rfl rfl)
theorem dX4_init_33 : decode cX4_init 33 = .ok (.putfield 20, 3) := dk_181 0 20 (dk_at dksX4_init_1 9 rfl rfl)
theorem dX4_init_36 : decode cX4_init 36 = .ok (.aload_n 0, 1) := dk_42 (dk_at dksX4_init_1 12 rfl rfl)
theorem dX4_init_37 : decode cX4_init 37 = .ok (.bipush 11, 2) := dk_16 11 (dk_at dksX4_init_1 13 rfl rfl)
theorem dX4_init_39 : decode cX4_init 39 = .ok (.newarray .int, 2) := dk_188_10 (dk_at dksX4_init_1 15 rfl rfl)
theorem dX4_init_41 : decode cX4_init 41 = .ok (.putfield 23, 3) := dk_181 0 23 (dk_at dksX4_init_1 17 rfl rfl)
theorem dX4_init_44 : decode cX4_init 44 = .ok (.aload_n 0, 1) := dk_42 (dk_at dksX4_init_1 20 rfl rfl)
theorem dX4_init_45 : decode cX4_init 45 = .ok (.sipush 3520, 3) := dk_17 13 192 (dk_at dksX4_init_1 21 rfl rfl)
theorem dX4_init_48 : decode cX4_init 48 = .ok (.newarray .int, 2) := dk_188_10 (dk_at dksX4_init_2 0 rfl rfl)
theorem dX4_init_50 : decode cX4_init 50 = .ok (.putfield 26, 3) := dk_181 0 26 (dk_at dksX4_init_2 2 rfl rfl)
theorem dX4_init_53 : decode cX4_init 53 = .ok (.aload_n 0, 1) := dk_42 (dk_at dksX4_init_2 5 rfl rfl)
theorem dX4_init_54 : decode cX4_init 54 = .ok (.sipush 3520, 3) := dk_17 13 192 (dk_at dksX4_init_2 6 rfl rfl)
theorem dX4_init_57 : decode cX4_init 57 = .ok (.newarray .int, 2) := dk_188_10 (dk_at dksX4_init_2 9 rfl rfl)
theorem dX4_init_59 : decode cX4_init 59 = .ok (.putfield 29, 3) := dk_181 0 29 (dk_at dksX4_init_2 11 rfl rfl)
theorem dX4_init_62 : decode cX4_init 62 = .ok (.aload_n 0, 1) := dk_42 (dk_at dksX4_init_2 14 rfl rfl)
theorem dX4_init_63 : decode cX4_init 63 = .ok (.bipush 11, 2) := dk_16 11 (dk_at dksX4_init_2 15 rfl rfl)
theorem dX4_init_65 : decode cX4_init 65 = .ok (.newarray .int, 2) := dk_188_10 (dk_at dksX4_init_2 17 rfl rfl)
theorem dX4_init_67 : decode cX4_init 67 = .ok (.putfield 32, 3) := dk_181 0 32 (dk_at dksX4_init_2 19 rfl rfl)
theorem dX4_init_70 : decode cX4_init 70 = .ok (.aload_n 0, 1) := dk_42 (dk_at dksX4_init_2 22 rfl rfl)
theorem dX4_init_71 : decode cX4_init 71 = .ok (.sipush 160, 3) := dk_17 0 160 (dk_at dksX4_init_3 0 rfl rfl)
theorem dX4_init_74 : decode cX4_init 74 = .ok (.newarray .int, 2) := dk_188_10 (dk_at dksX4_init_3 3 rfl rfl)
theorem dX4_init_76 : decode cX4_init 76 = .ok (.putfield 35, 3) := dk_181 0 35 (dk_at dksX4_init_3 5 rfl rfl)
theorem dX4_init_79 : decode cX4_init 79 = .ok (.aload_n 0, 1) := dk_42 (dk_at dksX4_init_3 8 rfl rfl)
theorem dX4_init_80 : decode cX4_init 80 = .ok (.bipush 64, 2) := dk_16 64 (dk_at dksX4_init_3 9 rfl rfl)
theorem dX4_init_82 : decode cX4_init 82 = .ok (.newarray .int, 2) := dk_188_10 (dk_at dksX4_init_3 11 rfl rfl)
theorem dX4_init_84 : decode cX4_init 84 = .ok (.putfield 38, 3) := dk_181 0 38 (dk_at dksX4_init_3 13 rfl rfl)
theorem dX4_init_87 : decode cX4_init 87 = .ok (.aload_n 0, 1) := dk_42 (dk_at dksX4_init_3 16 rfl rfl)
theorem dX4_init_88 : decode cX4_init 88 = .ok (.bipush 20, 2) := dk_16 20 (dk_at dksX4_init_3 17 rfl rfl)
theorem dX4_init_90 : decode cX4_init 90 = .ok (.newarray .long, 2) := dk_188_11 (dk_at dksX4_init_3 19 rfl rfl)
theorem dX4_init_92 : decode cX4_init 92 = .ok (.putfield 41, 3) := dk_181 0 41 (dk_at dksX4_init_3 21 rfl rfl)
theorem dX4_init_95 : decode cX4_init 95 = .ok (.aload_n 0, 1) := dk_42 (dk_at dksX4_init_4 0 rfl rfl)
theorem dX4_init_96 : decode cX4_init 96 = .ok (.bipush 10, 2) := dk_16 10 (dk_at dksX4_init_4 1 rfl rfl)
theorem dX4_init_98 : decode cX4_init 98 = .ok (.newarray .int, 2) := dk_188_10 (dk_at dksX4_init_4 3 rfl rfl)
theorem dX4_init_100 : decode cX4_init 100 = .ok (.putfield 45, 3) := dk_181 0 45 (dk_at dksX4_init_4 5 rfl rfl)
theorem dX4_init_103 : decode cX4_init 103 = .ok (.aload_n 0, 1) := dk_42 (dk_at dksX4_init_4 8 rfl rfl)
theorem dX4_init_104 : decode cX4_init 104 = .ok (.bipush 10, 2) := dk_16 10 (dk_at dksX4_init_4 9 rfl rfl)
theorem dX4_init_106 : decode cX4_init 106 = .ok (.newarray .int, 2) := dk_188_10 (dk_at dksX4_init_4 11 rfl rfl)
theorem dX4_init_108 : decode cX4_init 108 = .ok (.putfield 48, 3) := dk_181 0 48 (dk_at dksX4_init_4 13 rfl rfl)
theorem dX4_init_111 : decode cX4_init 111 = .ok (.aload_n 0, 1) := dk_42 (dk_at dksX4_init_4 16 rfl rfl)
theorem dX4_init_112 : decode cX4_init 112 = .ok (.bipush 10, 2) := dk_16 10 (dk_at dksX4_init_4 17 rfl rfl)
theorem dX4_init_114 : decode cX4_init 114 = .ok (.newarray .int, 2) := dk_188_10 (dk_at dksX4_init_4 19 rfl rfl)
theorem dX4_init_116 : decode cX4_init 116 = .ok (.putfield 51, 3) := dk_181 0 51 (dk_at dksX4_init_4 21 rfl rfl)
theorem dX4_init_119 : decode cX4_init 119 = .ok (.aload_n 0, 1) := dk_42 (dk_at dksX4_init_5 0 rfl rfl)
theorem dX4_init_120 : decode cX4_init 120 = .ok (.bipush 10, 2) := dk_16 10 (dk_at dksX4_init_5 1 rfl rfl)
theorem dX4_init_122 : decode cX4_init 122 = .ok (.newarray .int, 2) := dk_188_10 (dk_at dksX4_init_5 3 rfl rfl)
theorem dX4_init_124 : decode cX4_init 124 = .ok (.putfield 54, 3) := dk_181 0 54 (dk_at dksX4_init_5 5 rfl rfl)
theorem dX4_init_127 : decode cX4_init 127 = .ok (.aload_n 0, 1) := dk_42 (dk_at dksX4_init_5 8 rfl rfl)
theorem dX4_init_128 : decode cX4_init 128 = .ok (.bipush 10, 2) := dk_16 10 (dk_at dksX4_init_5 9 rfl rfl)
theorem dX4_init_130 : decode cX4_init 130 = .ok (.newarray .int, 2) := dk_188_10 (dk_at dksX4_init_5 11 rfl rfl)
theorem dX4_init_132 : decode cX4_init 132 = .ok (.putfield 57, 3) := dk_181 0 57 (dk_at dksX4_init_5 13 rfl rfl)
theorem dX4_init_135 : decode cX4_init 135 = .ok (.aload_n 0, 1) := dk_42 (dk_at dksX4_init_5 16 rfl rfl)
theorem dX4_init_136 : decode cX4_init 136 = .ok (.iconst 4, 1) := dk_7 (dk_at dksX4_init_5 17 rfl rfl)
theorem dX4_init_137 : decode cX4_init 137 = .ok (.newarray .int, 2) := dk_188_10 (dk_at dksX4_init_5 18 rfl rfl)
theorem dX4_init_139 : decode cX4_init 139 = .ok (.putfield 60, 3) := dk_181 0 60 (dk_at dksX4_init_5 20 rfl rfl)
theorem dX4_init_142 : decode cX4_init 142 = .ok (.aload_n 0, 1) := dk_42 (dk_at dksX4_init_5 23 rfl rfl)
theorem dX4_init_143 : decode cX4_init 143 = .ok (.iconst 4, 1) := dk_7 (dk_at dksX4_init_6 0 rfl rfl)
theorem dX4_init_144 : decode cX4_init 144 = .ok (.newarray .int, 2) := dk_188_10 (dk_at dksX4_init_6 1 rfl rfl)
theorem dX4_init_146 : decode cX4_init 146 = .ok (.putfield 63, 3) := dk_181 0 63 (dk_at dksX4_init_6 3 rfl rfl)
theorem dX4_init_149 : decode cX4_init 149 = .ok (.aload_n 0, 1) := dk_42 (dk_at dksX4_init_6 6 rfl rfl)
theorem dX4_init_150 : decode cX4_init 150 = .ok (.iconst 4, 1) := dk_7 (dk_at dksX4_init_6 7 rfl rfl)
theorem dX4_init_151 : decode cX4_init 151 = .ok (.newarray .int, 2) := dk_188_10 (dk_at dksX4_init_6 8 rfl rfl)
theorem dX4_init_153 : decode cX4_init 153 = .ok (.putfield 66, 3) := dk_181 0 66 (dk_at dksX4_init_6 10 rfl rfl)
theorem dX4_init_156 : decode cX4_init 156 = .ok (.aload_n 0, 1) := dk_42 (dk_at dksX4_init_6 13 rfl rfl)
theorem dX4_init_157 : decode cX4_init 157 = .ok (.iconst 4, 1) := dk_7 (dk_at dksX4_init_6 14 rfl rfl)
theorem dX4_init_158 : decode cX4_init 158 = .ok (.newarray .int, 2) := dk_188_10 (dk_at dksX4_init_6 15 rfl rfl)
theorem dX4_init_160 : decode cX4_init 160 = .ok (.putfield 69, 3) := dk_181 0 69 (dk_at dksX4_init_6 17 rfl rfl)
theorem dX4_init_163 : decode cX4_init 163 = .ok (.aload_n 0, 1) := dk_42 (dk_at dksX4_init_6 20 rfl rfl)
theorem dX4_init_164 : decode cX4_init 164 = .ok (.iconst 4, 1) := dk_7 (dk_at dksX4_init_6 21 rfl rfl)
theorem dX4_init_165 : decode cX4_init 165 = .ok (.newarray .int, 2) := dk_188_10 (dk_at dksX4_init_6 22 rfl rfl)
theorem dX4_init_167 : decode cX4_init 167 = .ok (.putfield 72, 3) := dk_181 0 72 (dk_at dksX4_init_7 0 rfl rfl)
theorem dX4_init_170 : decode cX4_init 170 = .ok (.aload_n 0, 1) := dk_42 (dk_at dksX4_init_7 3 rfl rfl)
theorem dX4_init_171 : decode cX4_init 171 = .ok (.iconst 4, 1) := dk_7 (dk_at dksX4_init_7 4 rfl rfl)
theorem dX4_init_172 : decode cX4_init 172 = .ok (.newarray .int, 2) := dk_188_10 (dk_at dksX4_init_7 5 rfl rfl)
theorem dX4_init_174 : decode cX4_init 174 = .ok (.putfield 75, 3) := dk_181 0 75 (dk_at dksX4_init_7 7 rfl rfl)
theorem dX4_init_177 : decode cX4_init 177 = .ok (.aload_n 0, 1) := dk_42 (dk_at dksX4_init_7 10 rfl rfl)
theorem dX4_init_178 : decode cX4_init 178 = .ok (.bipush 10, 2) := dk_16 10 (dk_at dksX4_init_7 11 rfl rfl)
theorem dX4_init_180 : decode cX4_init 180 = .ok (.newarray .boolean, 2) := dk_188_4 (dk_at dksX4_init_7 13 rfl rfl)
theorem dX4_init_182 : decode cX4_init 182 = .ok (.putfield 78, 3) := dk_181 0 78 (dk_at dksX4_init_7 15 rfl rfl)
theorem dX4_init_185 : decode cX4_init 185 = .ok (.aload_n 0, 1) := dk_42 (dk_at dksX4_init_7 18 rfl rfl)
theorem dX4_init_186 : decode cX4_init 186 = .ok (.bipush 10, 2) := dk_16 10 (dk_at dksX4_init_7 19 rfl rfl)
theorem dX4_init_188 : decode cX4_init 188 = .ok (.newarray .int, 2) := dk_188_10 (dk_at dksX4_init_7 21 rfl rfl)
theorem dX4_init_190 : decode cX4_init 190 = .ok (.putfield 82, 3) := dk_181 0 82 (dk_at dksX4_init_8 0 rfl rfl)
theorem dX4_init_193 : decode cX4_init 193 = .ok (.aload_n 0, 1) := dk_42 (dk_at dksX4_init_8 3 rfl rfl)
theorem dX4_init_194 : decode cX4_init 194 = .ok (.bipush 10, 2) := dk_16 10 (dk_at dksX4_init_8 4 rfl rfl)
theorem dX4_init_196 : decode cX4_init 196 = .ok (.newarray .int, 2) := dk_188_10 (dk_at dksX4_init_8 6 rfl rfl)
theorem dX4_init_198 : decode cX4_init 198 = .ok (.putfield 85, 3) := dk_181 0 85 (dk_at dksX4_init_8 8 rfl rfl)
theorem dX4_init_201 : decode cX4_init 201 = .ok (.aload_n 0, 1) := dk_42 (dk_at dksX4_init_8 11 rfl rfl)
theorem dX4_init_202 : decode cX4_init 202 = .ok (.bipush 10, 2) := dk_16 10 (dk_at dksX4_init_8 12 rfl rfl)
theorem dX4_init_204 : decode cX4_init 204 = .ok (.newarray .int, 2) := dk_188_10 (dk_at dksX4_init_8 14 rfl rfl)
theorem dX4_init_206 : decode cX4_init 206 = .ok (.putfield 88, 3) := dk_181 0 88 (dk_at dksX4_init_8 16 rfl rfl)
theorem dX4_init_209 : decode cX4_init 209 = .ok (.aload_n 0, 1) := dk_42 (dk_at dksX4_init_8 19 rfl rfl)
theorem dX4_init_210 : decode cX4_init 210 = .ok (.bipush 10, 2) := dk_16 10 (dk_at dksX4_init_8 20 rfl rfl)
theorem dX4_init_212 : decode cX4_init 212 = .ok (.newarray .int, 2) := dk_188_10 (dk_at dksX4_init_8 22 rfl rfl)
theorem dX4_init_214 : decode cX4_init 214 = .ok (.putfield 91, 3) := dk_181 0 91 (dk_at dksX4_init_9 0 rfl rfl)
theorem dX4_init_217 : decode cX4_init 217 = .ok (.aload_n 0, 1) := dk_42 (dk_at dksX4_init_9 3 rfl rfl)
theorem dX4_init_218 : decode cX4_init 218 = .ok (.bipush 10, 2) := dk_16 10 (dk_at dksX4_init_9 4 rfl rfl)
theorem dX4_init_220 : decode cX4_init 220 = .ok (.newarray .int, 2) := dk_188_10 (dk_at dksX4_init_9 6 rfl rfl)
theorem dX4_init_222 : decode cX4_init 222 = .ok (.putfield 94, 3) := dk_181 0 94 (dk_at dksX4_init_9 8 rfl rfl)
theorem dX4_init_225 : decode cX4_init 225 = .ok (.aload_n 0, 1) := dk_42 (dk_at dksX4_init_9 11 rfl rfl)
theorem dX4_init_226 : decode cX4_init 226 = .ok (.iconst 4, 1) := dk_7 (dk_at dksX4_init_9 12 rfl rfl)
theorem dX4_init_227 : decode cX4_init 227 = .ok (.newarray .int, 2) := dk_188_10 (dk_at dksX4_init_9 13 rfl rfl)
theorem dX4_init_229 : decode cX4_init 229 = .ok (.putfield 97, 3) := dk_181 0 97 (dk_at dksX4_init_9 15 rfl rfl)
theorem dX4_init_232 : decode cX4_init 232 = .ok (.aload_n 0, 1) := dk_42 (dk_at dksX4_init_9 18 rfl rfl)
theorem dX4_init_233 : decode cX4_init 233 = .ok (.iconst 4, 1) := dk_7 (dk_at dksX4_init_9 19 rfl rfl)
theorem dX4_init_234 : decode cX4_init 234 = .ok (.newarray .int, 2) := dk_188_10 (dk_at dksX4_init_9 20 rfl rfl)
theorem dX4_init_236 : decode cX4_init 236 = .ok (.putfield 100, 3) := dk_181 0 100 (dk_at dksX4_init_10 0 rfl rfl)
theorem dX4_init_239 : decode cX4_init 239 = .ok (.aload_n 0, 1) := dk_42 (dk_at dksX4_init_10 3 rfl rfl)
theorem dX4_init_240 : decode cX4_init 240 = .ok (.iconst 4, 1) := dk_7 (dk_at dksX4_init_10 4 rfl rfl)
theorem dX4_init_241 : decode cX4_init 241 = .ok (.newarray .int, 2) := dk_188_10 (dk_at dksX4_init_10 5 rfl rfl)
theorem dX4_init_243 : decode cX4_init 243 = .ok (.putfield 103, 3) := dk_181 0 103 (dk_at dksX4_init_10 7 rfl rfl)
theorem dX4_init_246 : decode cX4_init 246 = .ok (.aload_n 0, 1) := dk_42 (dk_at dksX4_init_10 10 rfl rfl)
theorem dX4_init_247 : decode cX4_init 247 = .ok (.iconst 4, 1) := dk_7 (dk_at dksX4_init_10 11 rfl rfl)
theorem dX4_init_248 : decode cX4_init 248 = .ok (.newarray .int, 2) := dk_188_10 (dk_at dksX4_init_10 12 rfl rfl)
theorem dX4_init_250 : decode cX4_init 250 = .ok (.putfield 106, 3) := dk_181 0 106 (dk_at dksX4_init_10 14 rfl rfl)
theorem dX4_init_253 : decode cX4_init 253 = .ok (.aload_n 0, 1) := dk_42 (dk_at dksX4_init_10 17 rfl rfl)
theorem dX4_init_254 : decode cX4_init 254 = .ok (.iconst 4, 1) := dk_7 (dk_at dksX4_init_10 18 rfl rfl)
theorem dX4_init_255 : decode cX4_init 255 = .ok (.newarray .int, 2) := dk_188_10 (dk_at dksX4_init_10 19 rfl rfl)
theorem dX4_init_257 : decode cX4_init 257 = .ok (.putfield 109, 3) := dk_181 0 109 (dk_at dksX4_init_10 21 rfl rfl)
theorem dX4_init_260 : decode cX4_init 260 = .ok (.aload_n 0, 1) := dk_42 (dk_at dksX4_init_11 0 rfl rfl)
theorem dX4_init_261 : decode cX4_init 261 = .ok (.iconst 4, 1) := dk_7 (dk_at dksX4_init_11 1 rfl rfl)
theorem dX4_init_262 : decode cX4_init 262 = .ok (.newarray .int, 2) := dk_188_10 (dk_at dksX4_init_11 2 rfl rfl)
theorem dX4_init_264 : decode cX4_init 264 = .ok (.putfield 112, 3) := dk_181 0 112 (dk_at dksX4_init_11 4 rfl rfl)
theorem dX4_init_267 : decode cX4_init 267 = .ok (.aload_n 0, 1) := dk_42 (dk_at dksX4_init_11 7 rfl rfl)
theorem dX4_init_268 : decode cX4_init 268 = .ok (.bipush 10, 2) := dk_16 10 (dk_at dksX4_init_11 8 rfl rfl)
theorem dX4_init_270 : decode cX4_init 270 = .ok (.newarray .boolean, 2) := dk_188_4 (dk_at dksX4_init_11 10 rfl rfl)
theorem dX4_init_272 : decode cX4_init 272 = .ok (.putfield 115, 3) := dk_181 0 115 (dk_at dksX4_init_11 12 rfl rfl)
theorem dX4_init_275 : decode cX4_init 275 = .ok (.aload_n 0, 1) := dk_42 (dk_at dksX4_init_11 15 rfl rfl)
theorem dX4_init_276 : decode cX4_init 276 = .ok (.bipush 10, 2) := dk_16 10 (dk_at dksX4_init_11 16 rfl rfl)
theorem dX4_init_278 : decode cX4_init 278 = .ok (.putfield 118, 3) := dk_181 0 118 (dk_at dksX4_init_11 18 rfl rfl)
theorem dX4_init_281 : decode cX4_init 281 = .ok (.aload_n 0, 1) := dk_42 (dk_at dksX4_init_11 21 rfl rfl)
theorem dX4_init_282 : decode cX4_init 282 = .ok (.sipush 128, 3) := dk_17 0 128 (dk_at dksX4_init_12 0 rfl rfl)
theorem dX4_init_285 : decode cX4_init 285 = .ok (.newarray .int, 2) := dk_188_10 (dk_at dksX4_init_12 3 rfl rfl)
theorem dX4_init_287 : decode cX4_init 287 = .ok (.putfield 121, 3) := dk_181 0 121 (dk_at dksX4_init_12 5 rfl rfl)
theorem dX4_init_290 : decode cX4_init 290 = .ok (.aload_n 0, 1) := dk_42 (dk_at dksX4_init_12 8 rfl rfl)
theorem dX4_init_291 : decode cX4_init 291 = .ok (.sipush 128, 3) := dk_17 0 128 (dk_at dksX4_init_12 9 rfl rfl)
theorem dX4_init_294 : decode cX4_init 294 = .ok (.newarray .int, 2) := dk_188_10 (dk_at dksX4_init_12 12 rfl rfl)
theorem dX4_init_296 : decode cX4_init 296 = .ok (.putfield 124, 3) := dk_181 0 124 (dk_at dksX4_init_12 14 rfl rfl)
theorem dX4_init_299 : decode cX4_init 299 = .ok (.aload_n 0, 1) := dk_42 (dk_at dksX4_init_12 17 rfl rfl)
theorem dX4_init_300 : decode cX4_init 300 = .ok (.sipush 5120, 3) := dk_17 20 0 (dk_at dksX4_init_12 18 rfl rfl)
theorem dX4_init_303 : decode cX4_init 303 = .ok (.newarray .int, 2) := dk_188_10 (dk_at dksX4_init_12 21 rfl rfl)
theorem dX4_init_305 : decode cX4_init 305 = .ok (.putfield 127, 3) := dk_181 0 127 (dk_at dksX4_init_13 0 rfl rfl)
theorem dX4_init_308 : decode cX4_init 308 = .ok (.aload_n 0, 1) := dk_42 (dk_at dksX4_init_13 3 rfl rfl)
theorem dX4_init_309 : decode cX4_init 309 = .ok (.sipush 2048, 3) := dk_17 8 0 (dk_at dksX4_init_13 4 rfl rfl)
theorem dX4_init_312 : decode cX4_init 312 = .ok (.newarray .int, 2) := dk_188_10 (dk_at dksX4_init_13 7 rfl rfl)
theorem dX4_init_314 : decode cX4_init 314 = .ok (.putfield 130, 3) := dk_181 0 130 (dk_at dksX4_init_13 9 rfl rfl)
theorem dX4_init_317 : decode cX4_init 317 = .ok (.aload_n 0, 1) := dk_42 (dk_at dksX4_init_13 12 rfl rfl)
theorem dX4_init_318 : decode cX4_init 318 = .ok (.bipush 16, 2) := dk_16 16 (dk_at dksX4_init_13 13 rfl rfl)
theorem dX4_init_320 : decode cX4_init 320 = .ok (.newarray .int, 2) := dk_188_10 (dk_at dksX4_init_13 15 rfl rfl)
theorem dX4_init_322 : decode cX4_init 322 = .ok (.putfield 133, 3) := dk_181 0 133 (dk_at dksX4_init_13 17 rfl rfl)
theorem dX4_init_325 : decode cX4_init 325 = .ok (.aload_n 0, 1) := dk_42 (dk_at dksX4_init_13 20 rfl rfl)
theorem dX4_init_326 : decode cX4_init 326 = .ok (.bipush 16, 2) := dk_16 16 (dk_at dksX4_init_13 21 rfl rfl)
theorem dX4_init_328 : decode cX4_init 328 = .ok (.newarray .int, 2) := dk_188_10 (dk_at dksX4_init_14 0 rfl rfl)
theorem dX4_init_330 : decode cX4_init 330 = .ok (.putfield 136, 3) := dk_181 0 136 (dk_at dksX4_init_14 2 rfl rfl)
theorem dX4_init_333 : decode cX4_init 333 = .ok (.aload_n 0, 1) := dk_42 (dk_at dksX4_init_14 5 rfl rfl)
theorem dX4_init_334 : decode cX4_init 334 = .ok (.bipush 16, 2) := dk_16 16 (dk_at dksX4_init_14 6 rfl rfl)
theorem dX4_init_336 : decode cX4_init 336 = .ok (.newarray .int, 2) := dk_188_10 (dk_at dksX4_init_14 8 rfl rfl)
theorem dX4_init_338 : decode cX4_init 338 = .ok (.putfield 139, 3) := dk_181 0 139 (dk_at dksX4_init_14 10 rfl rfl)
theorem dX4_init_341 : decode cX4_init 341 = .ok (.aload_n 0, 1) := dk_42 (dk_at dksX4_init_14 13 rfl rfl)
theorem dX4_init_342 : decode cX4_init 342 = .ok (.bipush 16, 2) := dk_16 16 (dk_at dksX4_init_14 14 rfl rfl)
theorem dX4_init_344 : decode cX4_init 344 = .ok (.newarray .int, 2) := dk_188_10 (dk_at dksX4_init_14 16 rfl rfl)
theorem dX4_init_346 : decode cX4_init 346 = .ok (.putfield 142, 3) := dk_181 0 142 (dk_at dksX4_init_14 18 rfl rfl)
theorem dX4_init_349 : decode cX4_init 349 = .ok (.aload_n 0, 1) := dk_42 (dk_at dksX4_init_14 21 rfl rfl)
theorem dX4_init_350 : decode cX4_init 350 = .ok (.bipush 16, 2) := dk_16 16 (dk_at dksX4_init_14 22 rfl rfl)
theorem dX4_init_352 : decode cX4_init 352 = .ok (.newarray .int, 2) := dk_188_10 (dk_at dksX4_init_15 0 rfl rfl)
theorem dX4_init_354 : decode cX4_init 354 = .ok (.putfield 145, 3) := dk_181 0 145 (dk_at dksX4_init_15 2 rfl rfl)
theorem dX4_init_357 : decode cX4_init 357 = .ok (.aload_n 0, 1) := dk_42 (dk_at dksX4_init_15 5 rfl rfl)
theorem dX4_init_358 : decode cX4_init 358 = .ok (.bipush 16, 2) := dk_16 16 (dk_at dksX4_init_15 6 rfl rfl)
theorem dX4_init_360 : decode cX4_init 360 = .ok (.newarray .int, 2) := dk_188_10 (dk_at dksX4_init_15 8 rfl rfl)
theorem dX4_init_362 : decode cX4_init 362 = .ok (.putfield 148, 3) := dk_181 0 148 (dk_at dksX4_init_15 10 rfl rfl)
theorem dX4_init_365 : decode cX4_init 365 = .ok (.aload_n 0, 1) := dk_42 (dk_at dksX4_init_15 13 rfl rfl)
theorem dX4_init_366 : decode cX4_init 366 = .ok (.iconst 4, 1) := dk_7 (dk_at dksX4_init_15 14 rfl rfl)
theorem dX4_init_367 : decode cX4_init 367 = .ok (.newarray .int, 2) := dk_188_10 (dk_at dksX4_init_15 15 rfl rfl)
theorem dX4_init_369 : decode cX4_init 369 = .ok (.putfield 151, 3) := dk_181 0 151 (dk_at dksX4_init_15 17 rfl rfl)
theorem dX4_init_372 : decode cX4_init 372 = .ok (.aload_n 0, 1) := dk_42 (dk_at dksX4_init_15 20 rfl rfl)
theorem dX4_init_373 : decode cX4_init 373 = .ok (.iconst 4, 1) := dk_7 (dk_at dksX4_init_15 21 rfl rfl)
theorem dX4_init_374 : decode cX4_init 374 = .ok (.newarray .int, 2) := dk_188_10 (dk_at dksX4_init_15 22 rfl rfl)
theorem dX4_init_376 : decode cX4_init 376 = .ok (.putfield 154, 3) := dk_181 0 154 (dk_at dksX4_init_16 0 rfl rfl)
theorem dX4_init_379 : decode cX4_init 379 = .ok (.aload_n 0, 1) := dk_42 (dk_at dksX4_init_16 3 rfl rfl)
theorem dX4_init_380 : decode cX4_init 380 = .ok (.bipush 40, 2) := dk_16 40 (dk_at dksX4_init_16 4 rfl rfl)
theorem dX4_init_382 : decode cX4_init 382 = .ok (.newarray .int, 2) := dk_188_10 (dk_at dksX4_init_16 6 rfl rfl)
theorem dX4_init_384 : decode cX4_init 384 = .ok (.putfield 157, 3) := dk_181 0 157 (dk_at dksX4_init_16 8 rfl rfl)
theorem dX4_init_387 : decode cX4_init 387 = .ok (.aload_n 0, 1) := dk_42 (dk_at dksX4_init_16 11 rfl rfl)
theorem dX4_init_388 : decode cX4_init 388 = .ok (.bipush 36, 2) := dk_16 36 (dk_at dksX4_init_16 12 rfl rfl)
theorem dX4_init_390 : decode cX4_init 390 = .ok (.newarray .int, 2) := dk_188_10 (dk_at dksX4_init_16 14 rfl rfl)
theorem dX4_init_392 : decode cX4_init 392 = .ok (.putfield 160, 3) := dk_181 0 160 (dk_at dksX4_init_16 16 rfl rfl)
theorem dX4_init_395 : decode cX4_init 395 = .ok (.aload_n 0, 1) := dk_42 (dk_at dksX4_init_16 19 rfl rfl)
theorem dX4_init_396 : decode cX4_init 396 = .ok (.bipush 30, 2) := dk_16 30 (dk_at dksX4_init_16 20 rfl rfl)
theorem dX4_init_398 : decode cX4_init 398 = .ok (.newarray .int, 2) := dk_188_10 (dk_at dksX4_init_16 22 rfl rfl)
theorem dX4_init_400 : decode cX4_init 400 = .ok (.putfield 163, 3) := dk_181 0 163 (dk_at dksX4_init_17 0 rfl rfl)
theorem dX4_init_403 : decode cX4_init 403 = .ok (.aload_n 0, 1) := dk_42 (dk_at dksX4_init_17 3 rfl rfl)
theorem dX4_init_404 : decode cX4_init 404 = .ok (.bipush 30, 2) := dk_16 30 (dk_at dksX4_init_17 4 rfl rfl)
theorem dX4_init_406 : decode cX4_init 406 = .ok (.newarray .int, 2) := dk_188_10 (dk_at dksX4_init_17 6 rfl rfl)
theorem dX4_init_408 : decode cX4_init 408 = .ok (.putfield 166, 3) := dk_181 0 166 (dk_at dksX4_init_17 8 rfl rfl)
theorem dX4_init_411 : decode cX4_init 411 = .ok (.aload_n 0, 1) := dk_42 (dk_at dksX4_init_17 11 rfl rfl)
theorem dX4_init_412 : decode cX4_init 412 = .ok (.bipush 30, 2) := dk_16 30 (dk_at dksX4_init_17 12 rfl rfl)
theorem dX4_init_414 : decode cX4_init 414 = .ok (.newarray .int, 2) := dk_188_10 (dk_at dksX4_init_17 14 rfl rfl)
theorem dX4_init_416 : decode cX4_init 416 = .ok (.putfield 169, 3) := dk_181 0 169 (dk_at dksX4_init_17 16 rfl rfl)
theorem dX4_init_419 : decode cX4_init 419 = .ok (.aload_n 0, 1) := dk_42 (dk_at dksX4_init_17 19 rfl rfl)
theorem dX4_init_420 : decode cX4_init 420 = .ok (.bipush 30, 2) := dk_16 30 (dk_at dksX4_init_17 20 rfl rfl)
theorem dX4_init_422 : decode cX4_init 422 = .ok (.newarray .int, 2) := dk_188_10 (dk_at dksX4_init_17 22 rfl rfl)
theorem dX4_init_424 : decode cX4_init 424 = .ok (.putfield 172, 3) := dk_181 0 172 (dk_at dksX4_init_18 0 rfl rfl)
theorem dX4_init_427 : decode cX4_init 427 = .ok (.aload_n 0, 1) := dk_42 (dk_at dksX4_init_18 3 rfl rfl)
theorem dX4_init_428 : decode cX4_init 428 = .ok (.bipush 30, 2) := dk_16 30 (dk_at dksX4_init_18 4 rfl rfl)
theorem dX4_init_430 : decode cX4_init 430 = .ok (.newarray .int, 2) := dk_188_10 (dk_at dksX4_init_18 6 rfl rfl)
theorem dX4_init_432 : decode cX4_init 432 = .ok (.putfield 175, 3) := dk_181 0 175 (dk_at dksX4_init_18 8 rfl rfl)
theorem dX4_init_435 : decode cX4_init 435 = .ok (.aload_n 0, 1) := dk_42 (dk_at dksX4_init_18 11 rfl rfl)
theorem dX4_init_436 : decode cX4_init 436 = .ok (.iconst 3, 1) := dk_6 (dk_at dksX4_init_18 12 rfl rfl)
theorem dX4_init_437 : decode cX4_init 437 = .ok (.newarray .boolean, 2) := dk_188_4 (dk_at dksX4_init_18 13 rfl rfl)
theorem dX4_init_439 : decode cX4_init 439 = .ok (.putfield 178, 3) := dk_181 0 178 (dk_at dksX4_init_18 15 rfl rfl)
theorem dX4_init_442 : decode cX4_init 442 = .ok (.aload_n 0, 1) := dk_42 (dk_at dksX4_init_18 18 rfl rfl)
theorem dX4_init_443 : decode cX4_init 443 = .ok (.sipush 384, 3) := dk_17 1 128 (dk_at dksX4_init_18 19 rfl rfl)
theorem dX4_init_446 : decode cX4_init 446 = .ok (.newarray .int, 2) := dk_188_10 (dk_at dksX4_init_18 22 rfl rfl)
theorem dX4_init_448 : decode cX4_init 448 = .ok (.putfield 181, 3) := dk_181 0 181 (dk_at dksX4_init_19 0 rfl rfl)
theorem dX4_init_451 : decode cX4_init 451 = .ok (.return_, 1) := dk_177 (dk_at dksX4_init_19 3 rfl rfl)
abbrev cX4_feed : ByteArray := prog_23_method_2_code
def yX4_feed : MethodName := ⟨RX4, "feed", "(IIIII)I"⟩
def dkwX4_feed_2 : List UInt8 := [172]
abbrev dktX4_feed_2 : List UInt8 := dkwX4_feed_2 ++ []
def dkwX4_feed_1 : List UInt8 := [182, 0, 187, 42, 29, 182, 0, 187, 42, 21, 4, 182, 0, 187, 42, 21, 5, 182, 0, 187, 42, 180, 0, 184]
abbrev dktX4_feed_1 : List UInt8 := dkwX4_feed_1 ++ dktX4_feed_2
def dkwX4_feed_0 : List UInt8 := [42, 180, 0, 184, 16, 20, 96, 17, 6, 64, 164, 0, 5, 2, 172, 42, 27, 182, 0, 187, 42, 28]
abbrev dktX4_feed_0 : List UInt8 := dkwX4_feed_0 ++ dktX4_feed_1
theorem dksX4_feed_0 : cX4_feed.data.toList.drop 0 = dktX4_feed_0 := by decide +kernel
theorem dksX4_feed_1 : cX4_feed.data.toList.drop 22 = dktX4_feed_1 := dk_seg dksX4_feed_0 22 rfl rfl
theorem dksX4_feed_2 : cX4_feed.data.toList.drop 46 = dktX4_feed_2 := dk_seg dksX4_feed_1 24 rfl rfl
theorem dX4_feed_0 : decode cX4_feed 0 = .ok (.aload_n 0, 1) := dk_42 (dk_at dksX4_feed_0 0 rfl rfl)
theorem dX4_feed_1 : decode cX4_feed 1 = .ok (.getfield 184, 3) := dk_180 0 184 (dk_at dksX4_feed_0 1 rfl rfl)
theorem dX4_feed_4 : decode cX4_feed 4 = .ok (.bipush 20, 2) := dk_16 20 (dk_at dksX4_feed_0 4 rfl rfl)
theorem dX4_feed_6 : decode cX4_feed 6 = .ok (.iadd, 1) := dk_96 (dk_at dksX4_feed_0 6 rfl rfl)
theorem dX4_feed_7 : decode cX4_feed 7 = .ok (.sipush 1600, 3) := dk_17 6 64 (dk_at dksX4_feed_0 7 rfl rfl)
theorem dX4_feed_10 : decode cX4_feed 10 = .ok (.if_icmp .le 5, 3) := dk_164 0 5 (dk_at dksX4_feed_0 10 rfl rfl)
theorem dX4_feed_13 : decode cX4_feed 13 = .ok (.iconst (-1), 1) := dk_2 (dk_at dksX4_feed_0 13 rfl rfl)
theorem dX4_feed_14 : decode cX4_feed 14 = .ok (.ireturn, 1) := dk_172 (dk_at dksX4_feed_0 14 rfl rfl)
theorem dX4_feed_15 : decode cX4_feed 15 = .ok (.aload_n 0, 1) := dk_42 (dk_at dksX4_feed_0 15 rfl rfl)
theorem dX4_feed_16 : decode cX4_feed 16 = .ok (.iload_n 1, 1) := dk_27 (dk_at dksX4_feed_0 16 rfl rfl)
theorem dX4_feed_17 : decode cX4_feed 17 = .ok (.invokevirtual 187, 3) := dk_182 0 187 (dk_at dksX4_feed_0 17 rfl rfl)
theorem dX4_feed_20 : decode cX4_feed 20 = .ok (.aload_n 0, 1) := dk_42 (dk_at dksX4_feed_0 20 rfl rfl)
theorem dX4_feed_21 : decode cX4_feed 21 = .ok (.iload_n 2, 1) := dk_28 (dk_at dksX4_feed_0 21 rfl rfl)
theorem dX4_feed_22 : decode cX4_feed 22 = .ok (.invokevirtual 187, 3) := dk_182 0 187 (dk_at dksX4_feed_1 0 rfl rfl)
theorem dX4_feed_25 : decode cX4_feed 25 = .ok (.aload_n 0, 1) := dk_42 (dk_at dksX4_feed_1 3 rfl rfl)
theorem dX4_feed_26 : decode cX4_feed 26 = .ok (.iload_n 3, 1) := dk_29 (dk_at dksX4_feed_1 4 rfl rfl)
theorem dX4_feed_27 : decode cX4_feed 27 = .ok (.invokevirtual 187, 3) := dk_182 0 187 (dk_at dksX4_feed_1 5 rfl rfl)
theorem dX4_feed_30 : decode cX4_feed 30 = .ok (.aload_n 0, 1) := dk_42 (dk_at dksX4_feed_1 8 rfl rfl)
theorem dX4_feed_31 : decode cX4_feed 31 = .ok (.iload 4, 2) := dk_21 4 (dk_at dksX4_feed_1 9 rfl rfl)
theorem dX4_feed_33 : decode cX4_feed 33 = .ok (.invokevirtual 187, 3) := dk_182 0 187 (dk_at dksX4_feed_1 11 rfl rfl)
theorem dX4_feed_36 : decode cX4_feed 36 = .ok (.aload_n 0, 1) := dk_42 (dk_at dksX4_feed_1 14 rfl rfl)
theorem dX4_feed_37 : decode cX4_feed 37 = .ok (.iload 5, 2) := dk_21 5 (dk_at dksX4_feed_1 15 rfl rfl)
theorem dX4_feed_39 : decode cX4_feed 39 = .ok (.invokevirtual 187, 3) := dk_182 0 187 (dk_at dksX4_feed_1 17 rfl rfl)
theorem dX4_feed_42 : decode cX4_feed 42 = .ok (.aload_n 0, 1) := dk_42 (dk_at dksX4_feed_1 20 rfl rfl)
theorem dX4_feed_43 : decode cX4_feed 43 = .ok (.getfield 184, 3) := dk_180 0 184 (dk_at dksX4_feed_1 21 rfl rfl)
theorem dX4_feed_46 : decode cX4_feed 46 = .ok (.ireturn, 1) := dk_172 (dk_at dksX4_feed_2 0 rfl rfl)
abbrev cX4_four : ByteArray := prog_23_method_3_code
def yX4_four : MethodName := ⟨RX4, "four", "(I)V"⟩
def dkwX4_four_1 : List UInt8 := [89, 180, 0, 184, 4, 96, 181, 0, 184, 132, 2, 248, 167, 255, 223, 177]
abbrev dktX4_four_1 : List UInt8 := dkwX4_four_1 ++ []
def dkwX4_four_0 : List UInt8 := [16, 24, 61, 28, 155, 0, 35, 42, 180, 0, 7, 42, 180, 0, 184, 27, 28, 122, 17, 0, 255, 126, 79, 42]
abbrev dktX4_four_0 : List UInt8 := dkwX4_four_0 ++ dktX4_four_1
theorem dksX4_four_0 : cX4_four.data.toList.drop 0 = dktX4_four_0 := by decide +kernel
theorem dksX4_four_1 : cX4_four.data.toList.drop 24 = dktX4_four_1 := dk_seg dksX4_four_0 24 rfl rfl
theorem dX4_four_0 : decode cX4_four 0 = .ok (.bipush 24, 2) := dk_16 24 (dk_at dksX4_four_0 0 rfl rfl)
theorem dX4_four_2 : decode cX4_four 2 = .ok (.istore_n 2, 1) := dk_61 (dk_at dksX4_four_0 2 rfl rfl)
theorem dX4_four_3 : decode cX4_four 3 = .ok (.iload_n 2, 1) := dk_28 (dk_at dksX4_four_0 3 rfl rfl)
theorem dX4_four_4 : decode cX4_four 4 = .ok (.ifCond .lt 35, 3) := dk_155 0 35 (dk_at dksX4_four_0 4 rfl rfl)
theorem dX4_four_7 : decode cX4_four 7 = .ok (.aload_n 0, 1) := dk_42 (dk_at dksX4_four_0 7 rfl rfl)
theorem dX4_four_8 : decode cX4_four 8 = .ok (.getfield 7, 3) := dk_180 0 7 (dk_at dksX4_four_0 8 rfl rfl)
theorem dX4_four_11 : decode cX4_four 11 = .ok (.aload_n 0, 1) := dk_42 (dk_at dksX4_four_0 11 rfl rfl)
theorem dX4_four_12 : decode cX4_four 12 = .ok (.getfield 184, 3) := dk_180 0 184 (dk_at dksX4_four_0 12 rfl rfl)
theorem dX4_four_15 : decode cX4_four 15 = .ok (.iload_n 1, 1) := dk_27 (dk_at dksX4_four_0 15 rfl rfl)
theorem dX4_four_16 : decode cX4_four 16 = .ok (.iload_n 2, 1) := dk_28 (dk_at dksX4_four_0 16 rfl rfl)
theorem dX4_four_17 : decode cX4_four 17 = .ok (.ishr, 1) := dk_122 (dk_at dksX4_four_0 17 rfl rfl)
theorem dX4_four_18 : decode cX4_four 18 = .ok (.sipush 255, 3) := dk_17 0 255 (dk_at dksX4_four_0 18 rfl rfl)
theorem dX4_four_21 : decode cX4_four 21 = .ok (.iand, 1) := dk_126 (dk_at dksX4_four_0 21 rfl rfl)
theorem dX4_four_22 : decode cX4_four 22 = .ok (.iastore, 1) := dk_79 (dk_at dksX4_four_0 22 rfl rfl)
theorem dX4_four_23 : decode cX4_four 23 = .ok (.aload_n 0, 1) := dk_42 (dk_at dksX4_four_0 23 rfl rfl)
theorem dX4_four_24 : decode cX4_four 24 = .ok (.dup, 1) := dk_89 (dk_at dksX4_four_1 0 rfl rfl)
theorem dX4_four_25 : decode cX4_four 25 = .ok (.getfield 184, 3) := dk_180 0 184 (dk_at dksX4_four_1 1 rfl rfl)
theorem dX4_four_28 : decode cX4_four 28 = .ok (.iconst 1, 1) := dk_4 (dk_at dksX4_four_1 4 rfl rfl)
theorem dX4_four_29 : decode cX4_four 29 = .ok (.iadd, 1) := dk_96 (dk_at dksX4_four_1 5 rfl rfl)
theorem dX4_four_30 : decode cX4_four 30 = .ok (.putfield 184, 3) := dk_181 0 184 (dk_at dksX4_four_1 6 rfl rfl)
theorem dX4_four_33 : decode cX4_four 33 = .ok (.iinc 2 (-8), 3) := dk_132 2 248 (dk_at dksX4_four_1 9 rfl rfl)
theorem dX4_four_36 : decode cX4_four 36 = .ok (.goto (-33), 3) := dk_167 255 223 (dk_at dksX4_four_1 12 rfl rfl)
theorem dX4_four_39 : decode cX4_four 39 = .ok (.return_, 1) := dk_177 (dk_at dksX4_four_1 15 rfl rfl)
abbrev cX4_end : ByteArray := prog_23_method_4_code
def yX4_end : MethodName := ⟨RX4, "end", "(I)I"⟩
def dkwX4_end_0 : List UInt8 := [27, 155, 0, 11, 27, 42, 180, 0, 184, 164, 0, 5, 2, 172, 42, 27, 181, 0, 184, 27, 172]
abbrev dktX4_end_0 : List UInt8 := dkwX4_end_0 ++ []
theorem dksX4_end_0 : cX4_end.data.toList.drop 0 = dktX4_end_0 := by decide +kernel
theorem dX4_end_0 : decode cX4_end 0 = .ok (.iload_n 1, 1) := dk_27 (dk_at dksX4_end_0 0 rfl rfl)
theorem dX4_end_1 : decode cX4_end 1 = .ok (.ifCond .lt 11, 3) := dk_155 0 11 (dk_at dksX4_end_0 1 rfl rfl)
theorem dX4_end_4 : decode cX4_end 4 = .ok (.iload_n 1, 1) := dk_27 (dk_at dksX4_end_0 4 rfl rfl)
theorem dX4_end_5 : decode cX4_end 5 = .ok (.aload_n 0, 1) := dk_42 (dk_at dksX4_end_0 5 rfl rfl)
theorem dX4_end_6 : decode cX4_end 6 = .ok (.getfield 184, 3) := dk_180 0 184 (dk_at dksX4_end_0 6 rfl rfl)
theorem dX4_end_9 : decode cX4_end 9 = .ok (.if_icmp .le 5, 3) := dk_164 0 5 (dk_at dksX4_end_0 9 rfl rfl)
theorem dX4_end_12 : decode cX4_end 12 = .ok (.iconst (-1), 1) := dk_2 (dk_at dksX4_end_0 12 rfl rfl)
theorem dX4_end_13 : decode cX4_end 13 = .ok (.ireturn, 1) := dk_172 (dk_at dksX4_end_0 13 rfl rfl)
theorem dX4_end_14 : decode cX4_end 14 = .ok (.aload_n 0, 1) := dk_42 (dk_at dksX4_end_0 14 rfl rfl)
theorem dX4_end_15 : decode cX4_end 15 = .ok (.iload_n 1, 1) := dk_27 (dk_at dksX4_end_0 15 rfl rfl)
theorem dX4_end_16 : decode cX4_end 16 = .ok (.putfield 184, 3) := dk_181 0 184 (dk_at dksX4_end_0 16 rfl rfl)
theorem dX4_end_19 : decode cX4_end 19 = .ok (.iload_n 1, 1) := dk_27 (dk_at dksX4_end_0 19 rfl rfl)
theorem dX4_end_20 : decode cX4_end 20 = .ok (.ireturn, 1) := dk_172 (dk_at dksX4_end_0 20 rfl rfl)
abbrev cX4_tub : ByteArray := prog_23_method_48_code
def yX4_tub : MethodName := ⟨RX4, "tub", "()I"⟩
def dkwX4_tub_17 : List UInt8 := [132, 1, 1, 167, 255, 241, 42, 180, 1, 211, 172]
abbrev dktX4_tub_17 : List UInt8 := dkwX4_tub_17 ++ []
def dkwX4_tub_16 : List UInt8 := [181, 1, 232, 42, 3, 181, 1, 235, 3, 60, 27, 6, 162, 0, 16, 42, 180, 0, 178, 27, 3, 84]
abbrev dktX4_tub_16 : List UInt8 := dkwX4_tub_16 ++ dktX4_tub_17
def dkwX4_tub_15 : List UInt8 := [3, 79, 132, 1, 1, 167, 255, 240, 42, 182, 1, 223, 42, 3, 181, 1, 226, 42, 3, 181, 1, 229, 42, 3]
abbrev dktX4_tub_15 : List UInt8 := dkwX4_tub_15 ++ dktX4_tub_16
def dkwX4_tub_14 : List UInt8 := [180, 0, 121, 16, 62, 42, 180, 1, 163, 79, 16, 63, 60, 27, 16, 123, 162, 0, 16, 42, 180, 0, 121, 27]
abbrev dktX4_tub_14 : List UInt8 := dkwX4_tub_14 ++ dktX4_tub_15
def dkwX4_tub_13 : List UInt8 := [180, 0, 112, 27, 42, 180, 0, 75, 27, 46, 79, 132, 1, 1, 167, 255, 176, 42, 182, 1, 220, 42]
abbrev dktX4_tub_13 : List UInt8 := dkwX4_tub_13 ++ dktX4_tub_14
def dkwX4_tub_12 : List UInt8 := [180, 0, 106, 27, 42, 180, 0, 69, 27, 46, 79, 42, 180, 0, 109, 27, 42, 180, 0, 72, 27, 46, 79, 42]
abbrev dktX4_tub_12 : List UInt8 := dkwX4_tub_12 ++ dktX4_tub_13
def dkwX4_tub_11 : List UInt8 := [180, 0, 100, 27, 42, 180, 0, 63, 27, 46, 79, 42, 180, 0, 103, 27, 42, 180, 0, 66, 27, 46, 79, 42]
abbrev dktX4_tub_11 : List UInt8 := dkwX4_tub_11 ++ dktX4_tub_12
def dkwX4_tub_10 : List UInt8 := [167, 255, 175, 3, 60, 27, 7, 162, 0, 81, 42, 180, 0, 97, 27, 42, 180, 0, 60, 27, 46, 79, 42]
abbrev dktX4_tub_10 : List UInt8 := dkwX4_tub_10 ++ dktX4_tub_11
def dkwX4_tub_9 : List UInt8 := [27, 42, 180, 0, 57, 27, 46, 79, 42, 180, 0, 115, 27, 42, 180, 0, 78, 27, 51, 84, 132, 1, 1]
abbrev dktX4_tub_9 : List UInt8 := dkwX4_tub_9 ++ dktX4_tub_10
def dkwX4_tub_8 : List UInt8 := [27, 42, 180, 0, 51, 27, 46, 79, 42, 180, 0, 91, 27, 42, 180, 0, 54, 27, 46, 79, 42, 180, 0, 94]
abbrev dktX4_tub_8 : List UInt8 := dkwX4_tub_8 ++ dktX4_tub_9
def dkwX4_tub_7 : List UInt8 := [27, 42, 180, 0, 45, 27, 46, 79, 42, 180, 0, 85, 27, 42, 180, 0, 48, 27, 46, 79, 42, 180, 0, 88]
abbrev dktX4_tub_7 : List UInt8 := dkwX4_tub_7 ++ dktX4_tub_8
def dkwX4_tub_6 : List UInt8 := [132, 2, 1, 167, 255, 213, 132, 1, 1, 167, 255, 183, 3, 60, 27, 16, 10, 162, 0, 81, 42, 180, 0, 82]
abbrev dktX4_tub_6 : List UInt8 := dkwX4_tub_6 ++ dktX4_tub_7
def dkwX4_tub_5 : List UInt8 := [42, 180, 0, 26, 28, 42, 180, 0, 17, 28, 46, 79, 42, 180, 0, 29, 28, 42, 180, 0, 20, 28, 46, 79]
abbrev dktX4_tub_5 : List UInt8 := dkwX4_tub_5 ++ dktX4_tub_6
def dkwX4_tub_4 : List UInt8 := [46, 79, 17, 1, 64, 27, 104, 61, 28, 17, 1, 64, 27, 104, 42, 180, 0, 32, 27, 46, 96, 162, 0, 33]
abbrev dktX4_tub_4 : List UInt8 := dkwX4_tub_4 ++ dktX4_tub_5
def dkwX4_tub_3 : List UInt8 := [180, 1, 61, 181, 1, 217, 3, 60, 27, 16, 11, 162, 0, 73, 42, 180, 0, 32, 27, 42, 180, 0, 23, 27]
abbrev dktX4_tub_3 : List UInt8 := dkwX4_tub_3 ++ dktX4_tub_4
def dkwX4_tub_2 : List UInt8 := [180, 1, 144, 181, 1, 211, 42, 42, 180, 1, 153, 181, 1, 214, 42, 42, 180, 1, 169, 181, 0, 118, 42, 42]
abbrev dktX4_tub_2 : List UInt8 := dkwX4_tub_2 ++ dktX4_tub_3
def dkwX4_tub_1 : List UInt8 := [180, 1, 129, 181, 1, 202, 42, 42, 180, 1, 132, 181, 1, 205, 42, 42, 180, 1, 138, 181, 1, 208, 42, 42]
abbrev dktX4_tub_1 : List UInt8 := dkwX4_tub_1 ++ dktX4_tub_2
def dkwX4_tub_0 : List UInt8 := [42, 182, 1, 196, 42, 180, 0, 224, 158, 0, 5, 2, 172, 42, 42, 180, 1, 126, 181, 1, 199, 42, 42]
abbrev dktX4_tub_0 : List UInt8 := dkwX4_tub_0 ++ dktX4_tub_1
theorem dksX4_tub_0 : cX4_tub.data.toList.drop 0 = dktX4_tub_0 := by decide +kernel
theorem dksX4_tub_1 : cX4_tub.data.toList.drop 23 = dktX4_tub_1 := dk_seg dksX4_tub_0 23 rfl rfl
theorem dksX4_tub_2 : cX4_tub.data.toList.drop 47 = dktX4_tub_2 := dk_seg dksX4_tub_1 24 rfl rfl
theorem dksX4_tub_3 : cX4_tub.data.toList.drop 71 = dktX4_tub_3 := dk_seg dksX4_tub_2 24 rfl rfl
theorem dksX4_tub_4 : cX4_tub.data.toList.drop 95 = dktX4_tub_4 := dk_seg dksX4_tub_3 24 rfl rfl
theorem dksX4_tub_5 : cX4_tub.data.toList.drop 119 = dktX4_tub_5 := dk_seg dksX4_tub_4 24 rfl rfl
theorem dksX4_tub_6 : cX4_tub.data.toList.drop 143 = dktX4_tub_6 := dk_seg dksX4_tub_5 24 rfl rfl
theorem dksX4_tub_7 : cX4_tub.data.toList.drop 167 = dktX4_tub_7 := dk_seg dksX4_tub_6 24 rfl rfl
theorem dksX4_tub_8 : cX4_tub.data.toList.drop 191 = dktX4_tub_8 := dk_seg dksX4_tub_7 24 rfl rfl
theorem dksX4_tub_9 : cX4_tub.data.toList.drop 215 = dktX4_tub_9 := dk_seg dksX4_tub_8 24 rfl rfl
theorem dksX4_tub_10 : cX4_tub.data.toList.drop 238 = dktX4_tub_10 := dk_seg dksX4_tub_9 23 rfl rfl
theorem dksX4_tub_11 : cX4_tub.data.toList.drop 261 = dktX4_tub_11 := dk_seg dksX4_tub_10 23 rfl rfl
theorem dksX4_tub_12 : cX4_tub.data.toList.drop 285 = dktX4_tub_12 := dk_seg dksX4_tub_11 24 rfl rfl
theorem dksX4_tub_13 : cX4_tub.data.toList.drop 309 = dktX4_tub_13 := dk_seg dksX4_tub_12 24 rfl rfl
theorem dksX4_tub_14 : cX4_tub.data.toList.drop 331 = dktX4_tub_14 := dk_seg dksX4_tub_13 22 rfl rfl
theorem dksX4_tub_15 : cX4_tub.data.toList.drop 355 = dktX4_tub_15 := dk_seg dksX4_tub_14 24 rfl rfl
theorem dksX4_tub_16 : cX4_tub.data.toList.drop 379 = dktX4_tub_16 := dk_seg dksX4_tub_15 24 rfl rfl
theorem dksX4_tub_17 : cX4_tub.data.toList.drop 401 = dktX4_tub_17 := dk_seg dksX4_tub_16 22 rfl rfl
theorem dX4_tub_0 : decode cX4_tub 0 = .ok (.aload_n 0, 1) := dk_42 (dk_at dksX4_tub_0 0 rfl rfl)
theorem dX4_tub_1 : decode cX4_tub 1 = .ok (.invokevirtual 452, 3) := dk_182 1 196 (dk_at dksX4_tub_0 1 rfl rfl)
theorem dX4_tub_4 : decode cX4_tub 4 = .ok (.aload_n 0, 1) := dk_42 (dk_at dksX4_tub_0 4 rfl rfl)
theorem dX4_tub_5 : decode cX4_tub 5 = .ok (.getfield 224, 3) := dk_180 0 224 (dk_at dksX4_tub_0 5 rfl rfl)
theorem dX4_tub_8 : decode cX4_tub 8 = .ok (.ifCond .le 5, 3) := dk_158 0 5 (dk_at dksX4_tub_0 8 rfl rfl)
theorem dX4_tub_11 : decode cX4_tub 11 = .ok (.iconst (-1), 1) := dk_2 (dk_at dksX4_tub_0 11 rfl rfl)
theorem dX4_tub_12 : decode cX4_tub 12 = .ok (.ireturn, 1) := dk_172 (dk_at dksX4_tub_0 12 rfl rfl)
theorem dX4_tub_13 : decode cX4_tub 13 = .ok (.aload_n 0, 1) := dk_42 (dk_at dksX4_tub_0 13 rfl rfl)
theorem dX4_tub_14 : decode cX4_tub 14 = .ok (.aload_n 0, 1) := dk_42 (dk_at dksX4_tub_0 14 rfl rfl)
theorem dX4_tub_15 : decode cX4_tub 15 = .ok (.getfield 382, 3) := dk_180 1 126 (dk_at dksX4_tub_0 15 rfl rfl)
theorem dX4_tub_18 : decode cX4_tub 18 = .ok (.putfield 455, 3) := dk_181 1 199 (dk_at dksX4_tub_0 18 rfl rfl)
theorem dX4_tub_21 : decode cX4_tub 21 = .ok (.aload_n 0, 1) := dk_42 (dk_at dksX4_tub_0 21 rfl rfl)
theorem dX4_tub_22 : decode cX4_tub 22 = .ok (.aload_n 0, 1) := dk_42 (dk_at dksX4_tub_0 22 rfl rfl)
theorem dX4_tub_23 : decode cX4_tub 23 = .ok (.getfield 385, 3) := dk_180 1 129 (dk_at dksX4_tub_1 0 rfl rfl)
theorem dX4_tub_26 : decode cX4_tub 26 = .ok (.putfield 458, 3) := dk_181 1 202 (dk_at dksX4_tub_1 3 rfl rfl)
theorem dX4_tub_29 : decode cX4_tub 29 = .ok (.aload_n 0, 1) := dk_42 (dk_at dksX4_tub_1 6 rfl rfl)
theorem dX4_tub_30 : decode cX4_tub 30 = .ok (.aload_n 0, 1) := dk_42 (dk_at dksX4_tub_1 7 rfl rfl)
theorem dX4_tub_31 : decode cX4_tub 31 = .ok (.getfield 388, 3) := dk_180 1 132 (dk_at dksX4_tub_1 8 rfl rfl)
theorem dX4_tub_34 : decode cX4_tub 34 = .ok (.putfield 461, 3) := dk_181 1 205 (dk_at dksX4_tub_1 11 rfl rfl)
theorem dX4_tub_37 : decode cX4_tub 37 = .ok (.aload_n 0, 1) := dk_42 (dk_at dksX4_tub_1 14 rfl rfl)
theorem dX4_tub_38 : decode cX4_tub 38 = .ok (.aload_n 0, 1) := dk_42 (dk_at dksX4_tub_1 15 rfl rfl)
theorem dX4_tub_39 : decode cX4_tub 39 = .ok (.getfield 394, 3) := dk_180 1 138 (dk_at dksX4_tub_1 16 rfl rfl)
theorem dX4_tub_42 : decode cX4_tub 42 = .ok (.putfield 464, 3) := dk_181 1 208 (dk_at dksX4_tub_1 19 rfl rfl)
theorem dX4_tub_45 : decode cX4_tub 45 = .ok (.aload_n 0, 1) := dk_42 (dk_at dksX4_tub_1 22 rfl rfl)
theorem dX4_tub_46 : decode cX4_tub 46 = .ok (.aload_n 0, 1) := dk_42 (dk_at dksX4_tub_1 23 rfl rfl)
theorem dX4_tub_47 : decode cX4_tub 47 = .ok (.getfield 400, 3) := dk_180 1 144 (dk_at dksX4_tub_2 0 rfl rfl)
theorem dX4_tub_50 : decode cX4_tub 50 = .ok (.putfield 467, 3) := dk_181 1 211 (dk_at dksX4_tub_2 3 rfl rfl)
theorem dX4_tub_53 : decode cX4_tub 53 = .ok (.aload_n 0, 1) := dk_42 (dk_at dksX4_tub_2 6 rfl rfl)
theorem dX4_tub_54 : decode cX4_tub 54 = .ok (.aload_n 0, 1) := dk_42 (dk_at dksX4_tub_2 7 rfl rfl)
theorem dX4_tub_55 : decode cX4_tub 55 = .ok (.getfield 409, 3) := dk_180 1 153 (dk_at dksX4_tub_2 8 rfl rfl)
theorem dX4_tub_58 : decode cX4_tub 58 = .ok (.putfield 470, 3) := dk_181 1 214 (dk_at dksX4_tub_2 11 rfl rfl)
theorem dX4_tub_61 : decode cX4_tub 61 = .ok (.aload_n 0, 1) := dk_42 (dk_at dksX4_tub_2 14 rfl rfl)
theorem dX4_tub_62 : decode cX4_tub 62 = .ok (.aload_n 0, 1) := dk_42 (dk_at dksX4_tub_2 15 rfl rfl)
theorem dX4_tub_63 : decode cX4_tub 63 = .ok (.getfield 425, 3) := dk_180 1 169 (dk_at dksX4_tub_2 16 rfl rfl)
theorem dX4_tub_66 : decode cX4_tub 66 = .ok (.putfield 118, 3) := dk_181 0 118 (dk_at dksX4_tub_2 19 rfl rfl)
theorem dX4_tub_69 : decode cX4_tub 69 = .ok (.aload_n 0, 1) := dk_42 (dk_at dksX4_tub_2 22 rfl rfl)
theorem dX4_tub_70 : decode cX4_tub 70 = .ok (.aload_n 0, 1) := dk_42 (dk_at dksX4_tub_2 23 rfl rfl)
theorem dX4_tub_71 : decode cX4_tub 71 = .ok (.getfield 317, 3) := dk_180 1 61 (dk_at dksX4_tub_3 0 rfl rfl)
theorem dX4_tub_74 : decode cX4_tub 74 = .ok (.putfield 473, 3) := dk_181 1 217 (dk_at dksX4_tub_3 3 rfl rfl)
theorem dX4_tub_77 : decode cX4_tub 77 = .ok (.iconst 0, 1) := dk_3 (dk_at dksX4_tub_3 6 rfl rfl)
theorem dX4_tub_78 : decode cX4_tub 78 = .ok (.istore_n 1, 1) := dk_60 (dk_at dksX4_tub_3 7 rfl rfl)
theorem dX4_tub_79 : decode cX4_tub 79 = .ok (.iload_n 1, 1) := dk_27 (dk_at dksX4_tub_3 8 rfl rfl)
theorem dX4_tub_80 : decode cX4_tub 80 = .ok (.bipush 11, 2) := dk_16 11 (dk_at dksX4_tub_3 9 rfl rfl)
theorem dX4_tub_82 : decode cX4_tub 82 = .ok (.if_icmp .ge 73, 3) := dk_162 0 73 (dk_at dksX4_tub_3 11 rfl rfl)
theorem dX4_tub_85 : decode cX4_tub 85 = .ok (.aload_n 0, 1) := dk_42 (dk_at dksX4_tub_3 14 rfl rfl)
theorem dX4_tub_86 : decode cX4_tub 86 = .ok (.getfield 32, 3) := dk_180 0 32 (dk_at dksX4_tub_3 15 rfl rfl)
theorem dX4_tub_89 : decode cX4_tub 89 = .ok (.iload_n 1, 1) := dk_27 (dk_at dksX4_tub_3 18 rfl rfl)
theorem dX4_tub_90 : decode cX4_tub 90 = .ok (.aload_n 0, 1) := dk_42 (dk_at dksX4_tub_3 19 rfl rfl)
theorem dX4_tub_91 : decode cX4_tub 91 = .ok (.getfield 23, 3) := dk_180 0 23 (dk_at dksX4_tub_3 20 rfl rfl)
theorem dX4_tub_94 : decode cX4_tub 94 = .ok (.iload_n 1, 1) := dk_27 (dk_at dksX4_tub_3 23 rfl rfl)
theorem dX4_tub_95 : decode cX4_tub 95 = .ok (.iaload, 1) := dk_46 (dk_at dksX4_tub_4 0 rfl rfl)
theorem dX4_tub_96 : decode cX4_tub 96 = .ok (.iastore, 1) := dk_79 (dk_at dksX4_tub_4 1 rfl rfl)
theorem dX4_tub_97 : decode cX4_tub 97 = .ok (.sipush 320, 3) := dk_17 1 64 (dk_at dksX4_tub_4 2 rfl rfl)
theorem dX4_tub_100 : decode cX4_tub 100 = .ok (.iload_n 1, 1) := dk_27 (dk_at dksX4_tub_4 5 rfl rfl)
theorem dX4_tub_101 : decode cX4_tub 101 = .ok (.imul, 1) := dk_104 (dk_at dksX4_tub_4 6 rfl rfl)
theorem dX4_tub_102 : decode cX4_tub 102 = .ok (.istore_n 2, 1) := dk_61 (dk_at dksX4_tub_4 7 rfl rfl)
theorem dX4_tub_103 : decode cX4_tub 103 = .ok (.iload_n 2, 1) := dk_28 (dk_at dksX4_tub_4 8 rfl rfl)
theorem dX4_tub_104 : decode cX4_tub 104 = .ok (.sipush 320, 3) := dk_17 1 64 (dk_at dksX4_tub_4 9 rfl rfl)
theorem dX4_tub_107 : decode cX4_tub 107 = .ok (.iload_n 1, 1) := dk_27 (dk_at dksX4_tub_4 12 rfl rfl)
theorem dX4_tub_108 : decode cX4_tub 108 = .ok (.imul, 1) := dk_104 (dk_at dksX4_tub_4 13 rfl rfl)
theorem dX4_tub_109 : decode cX4_tub 109 = .ok (.aload_n 0, 1) := dk_42 (dk_at dksX4_tub_4 14 rfl rfl)
theorem dX4_tub_110 : decode cX4_tub 110 = .ok (.getfield 32, 3) := dk_180 0 32 (dk_at dksX4_tub_4 15 rfl rfl)
theorem dX4_tub_113 : decode cX4_tub 113 = .ok (.iload_n 1, 1) := dk_27 (dk_at dksX4_tub_4 18 rfl rfl)
theorem dX4_tub_114 : decode cX4_tub 114 = .ok (.iaload, 1) := dk_46 (dk_at dksX4_tub_4 19 rfl rfl)
theorem dX4_tub_115 : decode cX4_tub 115 = .ok (.iadd, 1) := dk_96 (dk_at dksX4_tub_4 20 rfl rfl)
theorem dX4_tub_116 : decode cX4_tub 116 = .ok (.if_icmp .ge 33, 3) := dk_162 0 33 (dk_at dksX4_tub_4 21 rfl rfl)
theorem dX4_tub_119 : decode cX4_tub 119 = .ok (.aload_n 0, 1) := dk_42 (dk_at dksX4_tub_5 0 rfl rfl)
theorem dX4_tub_120 : decode cX4_tub 120 = .ok (.getfield 26, 3) := dk_180 0 26 (dk_at dksX4_tub_5 1 rfl rfl)
theorem dX4_tub_123 : decode cX4_tub 123 = .ok (.iload_n 2, 1) := dk_28 (dk_at dksX4_tub_5 4 rfl rfl)
theorem dX4_tub_124 : decode cX4_tub 124 = .ok (.aload_n 0, 1) := dk_42 (dk_at dksX4_tub_5 5 rfl rfl)
theorem dX4_tub_125 : decode cX4_tub 125 = .ok (.getfield 17, 3) := dk_180 0 17 (dk_at dksX4_tub_5 6 rfl rfl)
theorem dX4_tub_128 : decode cX4_tub 128 = .ok (.iload_n 2, 1) := dk_28 (dk_at dksX4_tub_5 9 rfl rfl)
theorem dX4_tub_129 : decode cX4_tub 129 = .ok (.iaload, 1) := dk_46 (dk_at dksX4_tub_5 10 rfl rfl)
theorem dX4_tub_130 : decode cX4_tub 130 = .ok (.iastore, 1) := dk_79 (dk_at dksX4_tub_5 11 rfl rfl)
theorem dX4_tub_131 : decode cX4_tub 131 = .ok (.aload_n 0, 1) := dk_42 (dk_at dksX4_tub_5 12 rfl rfl)
theorem dX4_tub_132 : decode cX4_tub 132 = .ok (.getfield 29, 3) := dk_180 0 29 (dk_at dksX4_tub_5 13 rfl rfl)
theorem dX4_tub_135 : decode cX4_tub 135 = .ok (.iload_n 2, 1) := dk_28 (dk_at dksX4_tub_5 16 rfl rfl)
theorem dX4_tub_136 : decode cX4_tub 136 = .ok (.aload_n 0, 1) := dk_42 (dk_at dksX4_tub_5 17 rfl rfl)
theorem dX4_tub_137 : decode cX4_tub 137 = .ok (.getfield 20, 3) := dk_180 0 20 (dk_at dksX4_tub_5 18 rfl rfl)
theorem dX4_tub_140 : decode cX4_tub 140 = .ok (.iload_n 2, 1) := dk_28 (dk_at dksX4_tub_5 21 rfl rfl)
theorem dX4_tub_141 : decode cX4_tub 141 = .ok (.iaload, 1) := dk_46 (dk_at dksX4_tub_5 22 rfl rfl)
theorem dX4_tub_142 : decode cX4_tub 142 = .ok (.iastore, 1) := dk_79 (dk_at dksX4_tub_5 23 rfl rfl)
theorem dX4_tub_143 : decode cX4_tub 143 = .ok (.iinc 2 1, 3) := dk_132 2 1 (dk_at dksX4_tub_6 0 rfl rfl)
theorem dX4_tub_146 : decode cX4_tub 146 = .ok (.goto (-43), 3) := dk_167 255 213 (dk_at dksX4_tub_6 3 rfl rfl)
theorem dX4_tub_149 : decode cX4_tub 149 = .ok (.iinc 1 1, 3) := dk_132 1 1 (dk_at dksX4_tub_6 6 rfl rfl)
theorem dX4_tub_152 : decode cX4_tub 152 = .ok (.goto (-73), 3) := dk_167 255 183 (dk_at dksX4_tub_6 9 rfl rfl)
theorem dX4_tub_155 : decode cX4_tub 155 = .ok (.iconst 0, 1) := dk_3 (dk_at dksX4_tub_6 12 rfl rfl)
theorem dX4_tub_156 : decode cX4_tub 156 = .ok (.istore_n 1, 1) := dk_60 (dk_at dksX4_tub_6 13 rfl rfl)
theorem dX4_tub_157 : decode cX4_tub 157 = .ok (.iload_n 1, 1) := dk_27 (dk_at dksX4_tub_6 14 rfl rfl)
theorem dX4_tub_158 : decode cX4_tub 158 = .ok (.bipush 10, 2) := dk_16 10 (dk_at dksX4_tub_6 15 rfl rfl)
theorem dX4_tub_160 : decode cX4_tub 160 = .ok (.if_icmp .ge 81, 3) := dk_162 0 81 (dk_at dksX4_tub_6 17 rfl rfl)
theorem dX4_tub_163 : decode cX4_tub 163 = .ok (.aload_n 0, 1) := dk_42 (dk_at dksX4_tub_6 20 rfl rfl)
theorem dX4_tub_164 : decode cX4_tub 164 = .ok (.getfield 82, 3) := dk_180 0 82 (dk_at dksX4_tub_6 21 rfl rfl)
theorem dX4_tub_167 : decode cX4_tub 167 = .ok (.iload_n 1, 1) := dk_27 (dk_at dksX4_tub_7 0 rfl rfl)
theorem dX4_tub_168 : decode cX4_tub 168 = .ok (.aload_n 0, 1) := dk_42 (dk_at dksX4_tub_7 1 rfl rfl)
theorem dX4_tub_169 : decode cX4_tub 169 = .ok (.getfield 45, 3) := dk_180 0 45 (dk_at dksX4_tub_7 2 rfl rfl)
theorem dX4_tub_172 : decode cX4_tub 172 = .ok (.iload_n 1, 1) := dk_27 (dk_at dksX4_tub_7 5 rfl rfl)
theorem dX4_tub_173 : decode cX4_tub 173 = .ok (.iaload, 1) := dk_46 (dk_at dksX4_tub_7 6 rfl rfl)
theorem dX4_tub_174 : decode cX4_tub 174 = .ok (.iastore, 1) := dk_79 (dk_at dksX4_tub_7 7 rfl rfl)
theorem dX4_tub_175 : decode cX4_tub 175 = .ok (.aload_n 0, 1) := dk_42 (dk_at dksX4_tub_7 8 rfl rfl)
theorem dX4_tub_176 : decode cX4_tub 176 = .ok (.getfield 85, 3) := dk_180 0 85 (dk_at dksX4_tub_7 9 rfl rfl)
theorem dX4_tub_179 : decode cX4_tub 179 = .ok (.iload_n 1, 1) := dk_27 (dk_at dksX4_tub_7 12 rfl rfl)
theorem dX4_tub_180 : decode cX4_tub 180 = .ok (.aload_n 0, 1) := dk_42 (dk_at dksX4_tub_7 13 rfl rfl)
theorem dX4_tub_181 : decode cX4_tub 181 = .ok (.getfield 48, 3) := dk_180 0 48 (dk_at dksX4_tub_7 14 rfl rfl)
theorem dX4_tub_184 : decode cX4_tub 184 = .ok (.iload_n 1, 1) := dk_27 (dk_at dksX4_tub_7 17 rfl rfl)
theorem dX4_tub_185 : decode cX4_tub 185 = .ok (.iaload, 1) := dk_46 (dk_at dksX4_tub_7 18 rfl rfl)
theorem dX4_tub_186 : decode cX4_tub 186 = .ok (.iastore, 1) := dk_79 (dk_at dksX4_tub_7 19 rfl rfl)
theorem dX4_tub_187 : decode cX4_tub 187 = .ok (.aload_n 0, 1) := dk_42 (dk_at dksX4_tub_7 20 rfl rfl)
theorem dX4_tub_188 : decode cX4_tub 188 = .ok (.getfield 88, 3) := dk_180 0 88 (dk_at dksX4_tub_7 21 rfl rfl)
theorem dX4_tub_191 : decode cX4_tub 191 = .ok (.iload_n 1, 1) := dk_27 (dk_at dksX4_tub_8 0 rfl rfl)
theorem dX4_tub_192 : decode cX4_tub 192 = .ok (.aload_n 0, 1) := dk_42 (dk_at dksX4_tub_8 1 rfl rfl)
theorem dX4_tub_193 : decode cX4_tub 193 = .ok (.getfield 51, 3) := dk_180 0 51 (dk_at dksX4_tub_8 2 rfl rfl)
theorem dX4_tub_196 : decode cX4_tub 196 = .ok (.iload_n 1, 1) := dk_27 (dk_at dksX4_tub_8 5 rfl rfl)
theorem dX4_tub_197 : decode cX4_tub 197 = .ok (.iaload, 1) := dk_46 (dk_at dksX4_tub_8 6 rfl rfl)
theorem dX4_tub_198 : decode cX4_tub 198 = .ok (.iastore, 1) := dk_79 (dk_at dksX4_tub_8 7 rfl rfl)
theorem dX4_tub_199 : decode cX4_tub 199 = .ok (.aload_n 0, 1) := dk_42 (dk_at dksX4_tub_8 8 rfl rfl)
theorem dX4_tub_200 : decode cX4_tub 200 = .ok (.getfield 91, 3) := dk_180 0 91 (dk_at dksX4_tub_8 9 rfl rfl)
theorem dX4_tub_203 : decode cX4_tub 203 = .ok (.iload_n 1, 1) := dk_27 (dk_at dksX4_tub_8 12 rfl rfl)
theorem dX4_tub_204 : decode cX4_tub 204 = .ok (.aload_n 0, 1) := dk_42 (dk_at dksX4_tub_8 13 rfl rfl)
theorem dX4_tub_205 : decode cX4_tub 205 = .ok (.getfield 54, 3) := dk_180 0 54 (dk_at dksX4_tub_8 14 rfl rfl)
theorem dX4_tub_208 : decode cX4_tub 208 = .ok (.iload_n 1, 1) := dk_27 (dk_at dksX4_tub_8 17 rfl rfl)
theorem dX4_tub_209 : decode cX4_tub 209 = .ok (.iaload, 1) := dk_46 (dk_at dksX4_tub_8 18 rfl rfl)
theorem dX4_tub_210 : decode cX4_tub 210 = .ok (.iastore, 1) := dk_79 (dk_at dksX4_tub_8 19 rfl rfl)
theorem dX4_tub_211 : decode cX4_tub 211 = .ok (.aload_n 0, 1) := dk_42 (dk_at dksX4_tub_8 20 rfl rfl)
theorem dX4_tub_212 : decode cX4_tub 212 = .ok (.getfield 94, 3) := dk_180 0 94 (dk_at dksX4_tub_8 21 rfl rfl)
theorem dX4_tub_215 : decode cX4_tub 215 = .ok (.iload_n 1, 1) := dk_27 (dk_at dksX4_tub_9 0 rfl rfl)
theorem dX4_tub_216 : decode cX4_tub 216 = .ok (.aload_n 0, 1) := dk_42 (dk_at dksX4_tub_9 1 rfl rfl)
theorem dX4_tub_217 : decode cX4_tub 217 = .ok (.getfield 57, 3) := dk_180 0 57 (dk_at dksX4_tub_9 2 rfl rfl)
theorem dX4_tub_220 : decode cX4_tub 220 = .ok (.iload_n 1, 1) := dk_27 (dk_at dksX4_tub_9 5 rfl rfl)
theorem dX4_tub_221 : decode cX4_tub 221 = .ok (.iaload, 1) := dk_46 (dk_at dksX4_tub_9 6 rfl rfl)
theorem dX4_tub_222 : decode cX4_tub 222 = .ok (.iastore, 1) := dk_79 (dk_at dksX4_tub_9 7 rfl rfl)
theorem dX4_tub_223 : decode cX4_tub 223 = .ok (.aload_n 0, 1) := dk_42 (dk_at dksX4_tub_9 8 rfl rfl)
theorem dX4_tub_224 : decode cX4_tub 224 = .ok (.getfield 115, 3) := dk_180 0 115 (dk_at dksX4_tub_9 9 rfl rfl)
theorem dX4_tub_227 : decode cX4_tub 227 = .ok (.iload_n 1, 1) := dk_27 (dk_at dksX4_tub_9 12 rfl rfl)
theorem dX4_tub_228 : decode cX4_tub 228 = .ok (.aload_n 0, 1) := dk_42 (dk_at dksX4_tub_9 13 rfl rfl)
theorem dX4_tub_229 : decode cX4_tub 229 = .ok (.getfield 78, 3) := dk_180 0 78 (dk_at dksX4_tub_9 14 rfl rfl)
theorem dX4_tub_232 : decode cX4_tub 232 = .ok (.iload_n 1, 1) := dk_27 (dk_at dksX4_tub_9 17 rfl rfl)
theorem dX4_tub_233 : decode cX4_tub 233 = .ok (.baload, 1) := dk_51 (dk_at dksX4_tub_9 18 rfl rfl)
theorem dX4_tub_234 : decode cX4_tub 234 = .ok (.bastore, 1) := dk_84 (dk_at dksX4_tub_9 19 rfl rfl)
theorem dX4_tub_235 : decode cX4_tub 235 = .ok (.iinc 1 1, 3) := dk_132 1 1 (dk_at dksX4_tub_9 20 rfl rfl)
theorem dX4_tub_238 : decode cX4_tub 238 = .ok (.goto (-81), 3) := dk_167 255 175 (dk_at dksX4_tub_10 0 rfl rfl)
theorem dX4_tub_241 : decode cX4_tub 241 = .ok (.iconst 0, 1) := dk_3 (dk_at dksX4_tub_10 3 rfl rfl)
theorem dX4_tub_242 : decode cX4_tub 242 = .ok (.istore_n 1, 1) := dk_60 (dk_at dksX4_tub_10 4 rfl rfl)
theorem dX4_tub_243 : decode cX4_tub 243 = .ok (.iload_n 1, 1) := dk_27 (dk_at dksX4_tub_10 5 rfl rfl)
theorem dX4_tub_244 : decode cX4_tub 244 = .ok (.iconst 4, 1) := dk_7 (dk_at dksX4_tub_10 6 rfl rfl)
theorem dX4_tub_245 : decode cX4_tub 245 = .ok (.if_icmp .ge 81, 3) := dk_162 0 81 (dk_at dksX4_tub_10 7 rfl rfl)
theorem dX4_tub_248 : decode cX4_tub 248 = .ok (.aload_n 0, 1) := dk_42 (dk_at dksX4_tub_10 10 rfl rfl)
theorem dX4_tub_249 : decode cX4_tub 249 = .ok (.getfield 97, 3) := dk_180 0 97 (dk_at dksX4_tub_10 11 rfl rfl)
theorem dX4_tub_252 : decode cX4_tub 252 = .ok (.iload_n 1, 1) := dk_27 (dk_at dksX4_tub_10 14 rfl rfl)
theorem dX4_tub_253 : decode cX4_tub 253 = .ok (.aload_n 0, 1) := dk_42 (dk_at dksX4_tub_10 15 rfl rfl)
theorem dX4_tub_254 : decode cX4_tub 254 = .ok (.getfield 60, 3) := dk_180 0 60 (dk_at dksX4_tub_10 16 rfl rfl)
theorem dX4_tub_257 : decode cX4_tub 257 = .ok (.iload_n 1, 1) := dk_27 (dk_at dksX4_tub_10 19 rfl rfl)
theorem dX4_tub_258 : decode cX4_tub 258 = .ok (.iaload, 1) := dk_46 (dk_at dksX4_tub_10 20 rfl rfl)
theorem dX4_tub_259 : decode cX4_tub 259 = .ok (.iastore, 1) := dk_79 (dk_at dksX4_tub_10 21 rfl rfl)
theorem dX4_tub_260 : decode cX4_tub 260 = .ok (.aload_n 0, 1) := dk_42 (dk_at dksX4_tub_10 22 rfl rfl)
theorem dX4_tub_261 : decode cX4_tub 261 = .ok (.getfield 100, 3) := dk_180 0 100 (dk_at dksX4_tub_11 0 rfl rfl)
theorem dX4_tub_264 : decode cX4_tub 264 = .ok (.iload_n 1, 1) := dk_27 (dk_at dksX4_tub_11 3 rfl rfl)
theorem dX4_tub_265 : decode cX4_tub 265 = .ok (.aload_n 0, 1) := dk_42 (dk_at dksX4_tub_11 4 rfl rfl)
theorem dX4_tub_266 : decode cX4_tub 266 = .ok (.getfield 63, 3) := dk_180 0 63 (dk_at dksX4_tub_11 5 rfl rfl)
theorem dX4_tub_269 : decode cX4_tub 269 = .ok (.iload_n 1, 1) := dk_27 (dk_at dksX4_tub_11 8 rfl rfl)
theorem dX4_tub_270 : decode cX4_tub 270 = .ok (.iaload, 1) := dk_46 (dk_at dksX4_tub_11 9 rfl rfl)
theorem dX4_tub_271 : decode cX4_tub 271 = .ok (.iastore, 1) := dk_79 (dk_at dksX4_tub_11 10 rfl rfl)
theorem dX4_tub_272 : decode cX4_tub 272 = .ok (.aload_n 0, 1) := dk_42 (dk_at dksX4_tub_11 11 rfl rfl)
theorem dX4_tub_273 : decode cX4_tub 273 = .ok (.getfield 103, 3) := dk_180 0 103 (dk_at dksX4_tub_11 12 rfl rfl)
theorem dX4_tub_276 : decode cX4_tub 276 = .ok (.iload_n 1, 1) := dk_27 (dk_at dksX4_tub_11 15 rfl rfl)
theorem dX4_tub_277 : decode cX4_tub 277 = .ok (.aload_n 0, 1) := dk_42 (dk_at dksX4_tub_11 16 rfl rfl)
theorem dX4_tub_278 : decode cX4_tub 278 = .ok (.getfield 66, 3) := dk_180 0 66 (dk_at dksX4_tub_11 17 rfl rfl)
theorem dX4_tub_281 : decode cX4_tub 281 = .ok (.iload_n 1, 1) := dk_27 (dk_at dksX4_tub_11 20 rfl rfl)
theorem dX4_tub_282 : decode cX4_tub 282 = .ok (.iaload, 1) := dk_46 (dk_at dksX4_tub_11 21 rfl rfl)
theorem dX4_tub_283 : decode cX4_tub 283 = .ok (.iastore, 1) := dk_79 (dk_at dksX4_tub_11 22 rfl rfl)
theorem dX4_tub_284 : decode cX4_tub 284 = .ok (.aload_n 0, 1) := dk_42 (dk_at dksX4_tub_11 23 rfl rfl)
theorem dX4_tub_285 : decode cX4_tub 285 = .ok (.getfield 106, 3) := dk_180 0 106 (dk_at dksX4_tub_12 0 rfl rfl)
theorem dX4_tub_288 : decode cX4_tub 288 = .ok (.iload_n 1, 1) := dk_27 (dk_at dksX4_tub_12 3 rfl rfl)
theorem dX4_tub_289 : decode cX4_tub 289 = .ok (.aload_n 0, 1) := dk_42 (dk_at dksX4_tub_12 4 rfl rfl)
theorem dX4_tub_290 : decode cX4_tub 290 = .ok (.getfield 69, 3) := dk_180 0 69 (dk_at dksX4_tub_12 5 rfl rfl)
theorem dX4_tub_293 : decode cX4_tub 293 = .ok (.iload_n 1, 1) := dk_27 (dk_at dksX4_tub_12 8 rfl rfl)
theorem dX4_tub_294 : decode cX4_tub 294 = .ok (.iaload, 1) := dk_46 (dk_at dksX4_tub_12 9 rfl rfl)
theorem dX4_tub_295 : decode cX4_tub 295 = .ok (.iastore, 1) := dk_79 (dk_at dksX4_tub_12 10 rfl rfl)
theorem dX4_tub_296 : decode cX4_tub 296 = .ok (.aload_n 0, 1) := dk_42 (dk_at dksX4_tub_12 11 rfl rfl)
theorem dX4_tub_297 : decode cX4_tub 297 = .ok (.getfield 109, 3) := dk_180 0 109 (dk_at dksX4_tub_12 12 rfl rfl)
theorem dX4_tub_300 : decode cX4_tub 300 = .ok (.iload_n 1, 1) := dk_27 (dk_at dksX4_tub_12 15 rfl rfl)
theorem dX4_tub_301 : decode cX4_tub 301 = .ok (.aload_n 0, 1) := dk_42 (dk_at dksX4_tub_12 16 rfl rfl)
theorem dX4_tub_302 : decode cX4_tub 302 = .ok (.getfield 72, 3) := dk_180 0 72 (dk_at dksX4_tub_12 17 rfl rfl)
theorem dX4_tub_305 : decode cX4_tub 305 = .ok (.iload_n 1, 1) := dk_27 (dk_at dksX4_tub_12 20 rfl rfl)
theorem dX4_tub_306 : decode cX4_tub 306 = .ok (.iaload, 1) := dk_46 (dk_at dksX4_tub_12 21 rfl rfl)
theorem dX4_tub_307 : decode cX4_tub 307 = .ok (.iastore, 1) := dk_79 (dk_at dksX4_tub_12 22 rfl rfl)
theorem dX4_tub_308 : decode cX4_tub 308 = .ok (.aload_n 0, 1) := dk_42 (dk_at dksX4_tub_12 23 rfl rfl)
theorem dX4_tub_309 : decode cX4_tub 309 = .ok (.getfield 112, 3) := dk_180 0 112 (dk_at dksX4_tub_13 0 rfl rfl)
theorem dX4_tub_312 : decode cX4_tub 312 = .ok (.iload_n 1, 1) := dk_27 (dk_at dksX4_tub_13 3 rfl rfl)
theorem dX4_tub_313 : decode cX4_tub 313 = .ok (.aload_n 0, 1) := dk_42 (dk_at dksX4_tub_13 4 rfl rfl)
theorem dX4_tub_314 : decode cX4_tub 314 = .ok (.getfield 75, 3) := dk_180 0 75 (dk_at dksX4_tub_13 5 rfl rfl)
theorem dX4_tub_317 : decode cX4_tub 317 = .ok (.iload_n 1, 1) := dk_27 (dk_at dksX4_tub_13 8 rfl rfl)
theorem dX4_tub_318 : decode cX4_tub 318 = .ok (.iaload, 1) := dk_46 (dk_at dksX4_tub_13 9 rfl rfl)
theorem dX4_tub_319 : decode cX4_tub 319 = .ok (.iastore, 1) := dk_79 (dk_at dksX4_tub_13 10 rfl rfl)
theorem dX4_tub_320 : decode cX4_tub 320 = .ok (.iinc 1 1, 3) := dk_132 1 1 (dk_at dksX4_tub_13 11 rfl rfl)
theorem dX4_tub_323 : decode cX4_tub 323 = .ok (.goto (-80), 3) := dk_167 255 176 (dk_at dksX4_tub_13 14 rfl rfl)
theorem dX4_tub_326 : decode cX4_tub 326 = .ok (.aload_n 0, 1) := dk_42 (dk_at dksX4_tub_13 17 rfl rfl)
theorem dX4_tub_327 : decode cX4_tub 327 = .ok (.invokevirtual 476, 3) := dk_182 1 220 (dk_at dksX4_tub_13 18 rfl rfl)
theorem dX4_tub_330 : decode cX4_tub 330 = .ok (.aload_n 0, 1) := dk_42 (dk_at dksX4_tub_13 21 rfl rfl)
theorem dX4_tub_331 : decode cX4_tub 331 = .ok (.getfield 121, 3) := dk_180 0 121 (dk_at dksX4_tub_14 0 rfl rfl)
theorem dX4_tub_334 : decode cX4_tub 334 = .ok (.bipush 62, 2) := dk_16 62 (dk_at dksX4_tub_14 3 rfl rfl)
theorem dX4_tub_336 : decode cX4_tub 336 = .ok (.aload_n 0, 1) := dk_42 (dk_at dksX4_tub_14 5 rfl rfl)
theorem dX4_tub_337 : decode cX4_tub 337 = .ok (.getfield 419, 3) := dk_180 1 163 (dk_at dksX4_tub_14 6 rfl rfl)
theorem dX4_tub_340 : decode cX4_tub 340 = .ok (.iastore, 1) := dk_79 (dk_at dksX4_tub_14 9 rfl rfl)
theorem dX4_tub_341 : decode cX4_tub 341 = .ok (.bipush 63, 2) := dk_16 63 (dk_at dksX4_tub_14 10 rfl rfl)
theorem dX4_tub_343 : decode cX4_tub 343 = .ok (.istore_n 1, 1) := dk_60 (dk_at dksX4_tub_14 12 rfl rfl)
theorem dX4_tub_344 : decode cX4_tub 344 = .ok (.iload_n 1, 1) := dk_27 (dk_at dksX4_tub_14 13 rfl rfl)
theorem dX4_tub_345 : decode cX4_tub 345 = .ok (.bipush 123, 2) := dk_16 123 (dk_at dksX4_tub_14 14 rfl rfl)
theorem dX4_tub_347 : decode cX4_tub 347 = .ok (.if_icmp .ge 16, 3) := dk_162 0 16 (dk_at dksX4_tub_14 16 rfl rfl)
theorem dX4_tub_350 : decode cX4_tub 350 = .ok (.aload_n 0, 1) := dk_42 (dk_at dksX4_tub_14 19 rfl rfl)
theorem dX4_tub_351 : decode cX4_tub 351 = .ok (.getfield 121, 3) := dk_180 0 121 (dk_at dksX4_tub_14 20 rfl rfl)
theorem dX4_tub_354 : decode cX4_tub 354 = .ok (.iload_n 1, 1) := dk_27 (dk_at dksX4_tub_14 23 rfl rfl)
theorem dX4_tub_355 : decode cX4_tub 355 = .ok (.iconst 0, 1) := dk_3 (dk_at dksX4_tub_15 0 rfl rfl)
theorem dX4_tub_356 : decode cX4_tub 356 = .ok (.iastore, 1) := dk_79 (dk_at dksX4_tub_15 1 rfl rfl)
theorem dX4_tub_357 : decode cX4_tub 357 = .ok (.iinc 1 1, 3) := dk_132 1 1 (dk_at dksX4_tub_15 2 rfl rfl)
theorem dX4_tub_360 : decode cX4_tub 360 = .ok (.goto (-16), 3) := dk_167 255 240 (dk_at dksX4_tub_15 5 rfl rfl)
theorem dX4_tub_363 : decode cX4_tub 363 = .ok (.aload_n 0, 1) := dk_42 (dk_at dksX4_tub_15 8 rfl rfl)
theorem dX4_tub_364 : decode cX4_tub 364 = .ok (.invokevirtual 479, 3) := dk_182 1 223 (dk_at dksX4_tub_15 9 rfl rfl)
theorem dX4_tub_367 : decode cX4_tub 367 = .ok (.aload_n 0, 1) := dk_42 (dk_at dksX4_tub_15 12 rfl rfl)
theorem dX4_tub_368 : decode cX4_tub 368 = .ok (.iconst 0, 1) := dk_3 (dk_at dksX4_tub_15 13 rfl rfl)
theorem dX4_tub_369 : decode cX4_tub 369 = .ok (.putfield 482, 3) := dk_181 1 226 (dk_at dksX4_tub_15 14 rfl rfl)
theorem dX4_tub_372 : decode cX4_tub 372 = .ok (.aload_n 0, 1) := dk_42 (dk_at dksX4_tub_15 17 rfl rfl)
theorem dX4_tub_373 : decode cX4_tub 373 = .ok (.iconst 0, 1) := dk_3 (dk_at dksX4_tub_15 18 rfl rfl)
theorem dX4_tub_374 : decode cX4_tub 374 = .ok (.putfield 485, 3) := dk_181 1 229 (dk_at dksX4_tub_15 19 rfl rfl)
theorem dX4_tub_377 : decode cX4_tub 377 = .ok (.aload_n 0, 1) := dk_42 (dk_at dksX4_tub_15 22 rfl rfl)
theorem dX4_tub_378 : decode cX4_tub 378 = .ok (.iconst 0, 1) := dk_3 (dk_at dksX4_tub_15 23 rfl rfl)
theorem dX4_tub_379 : decode cX4_tub 379 = .ok (.putfield 488, 3) := dk_181 1 232 (dk_at dksX4_tub_16 0 rfl rfl)
theorem dX4_tub_382 : decode cX4_tub 382 = .ok (.aload_n 0, 1) := dk_42 (dk_at dksX4_tub_16 3 rfl rfl)
theorem dX4_tub_383 : decode cX4_tub 383 = .ok (.iconst 0, 1) := dk_3 (dk_at dksX4_tub_16 4 rfl rfl)
theorem dX4_tub_384 : decode cX4_tub 384 = .ok (.putfield 491, 3) := dk_181 1 235 (dk_at dksX4_tub_16 5 rfl rfl)
theorem dX4_tub_387 : decode cX4_tub 387 = .ok (.iconst 0, 1) := dk_3 (dk_at dksX4_tub_16 8 rfl rfl)
theorem dX4_tub_388 : decode cX4_tub 388 = .ok (.istore_n 1, 1) := dk_60 (dk_at dksX4_tub_16 9 rfl rfl)
theorem dX4_tub_389 : decode cX4_tub 389 = .ok (.iload_n 1, 1) := dk_27 (dk_at dksX4_tub_16 10 rfl rfl)
theorem dX4_tub_390 : decode cX4_tub 390 = .ok (.iconst 3, 1) := dk_6 (dk_at dksX4_tub_16 11 rfl rfl)
theorem dX4_tub_391 : decode cX4_tub 391 = .ok (.if_icmp .ge 16, 3) := dk_162 0 16 (dk_at dksX4_tub_16 12 rfl rfl)
theorem dX4_tub_394 : decode cX4_tub 394 = .ok (.aload_n 0, 1) := dk_42 (dk_at dksX4_tub_16 15 rfl rfl)
theorem dX4_tub_395 : decode cX4_tub 395 = .ok (.getfield 178, 3) := dk_180 0 178 (dk_at dksX4_tub_16 16 rfl rfl)
theorem dX4_tub_398 : decode cX4_tub 398 = .ok (.iload_n 1, 1) := dk_27 (dk_at dksX4_tub_16 19 rfl rfl)
theorem dX4_tub_399 : decode cX4_tub 399 = .ok (.iconst 0, 1) := dk_3 (dk_at dksX4_tub_16 20 rfl rfl)
theorem dX4_tub_400 : decode cX4_tub 400 = .ok (.bastore, 1) := dk_84 (dk_at dksX4_tub_16 21 rfl rfl)
theorem dX4_tub_401 : decode cX4_tub 401 = .ok (.iinc 1 1, 3) := dk_132 1 1 (dk_at dksX4_tub_17 0 rfl rfl)
theorem dX4_tub_404 : decode cX4_tub 404 = .ok (.goto (-15), 3) := dk_167 255 241 (dk_at dksX4_tub_17 3 rfl rfl)
theorem dX4_tub_407 : decode cX4_tub 407 = .ok (.aload_n 0, 1) := dk_42 (dk_at dksX4_tub_17 6 rfl rfl)
theorem dX4_tub_408 : decode cX4_tub 408 = .ok (.getfield 467, 3) := dk_180 1 211 (dk_at dksX4_tub_17 7 rfl rfl)
theorem dX4_tub_411 : decode cX4_tub 411 = .ok (.ireturn, 1) := dk_172 (dk_at dksX4_tub_17 10 rfl rfl)
abbrev cX4_readAll : ByteArray := prog_23_method_47_code
def yX4_readAll : MethodName := ⟨RX4, "readAll", "()V"⟩
def dkwX4_readAll_4 : List UInt8 := [42, 180, 0, 211, 153, 0, 10, 42, 182, 1, 193, 167, 255, 238, 177]
abbrev dktX4_readAll_4 : List UInt8 := dkwX4_readAll_4 ++ []
def dkwX4_readAll_3 : List UInt8 := [181, 1, 169, 42, 3, 181, 1, 166, 42, 3, 181, 1, 61, 42, 182, 1, 31, 42, 180, 0, 224, 154, 0, 17]
abbrev dktX4_readAll_3 : List UInt8 := dkwX4_readAll_3 ++ dktX4_readAll_4
def dkwX4_readAll_2 : List UInt8 := [42, 3, 181, 1, 144, 42, 3, 181, 1, 153, 42, 3, 181, 1, 163, 42, 3, 181, 1, 159, 42, 16, 10]
abbrev dktX4_readAll_2 : List UInt8 := dkwX4_readAll_2 ++ dktX4_readAll_3
def dkwX4_readAll_1 : List UInt8 := [2, 181, 0, 13, 42, 3, 181, 1, 126, 42, 3, 181, 1, 129, 42, 3, 181, 1, 132, 42, 3, 181, 1, 138]
abbrev dktX4_readAll_1 : List UInt8 := dkwX4_readAll_1 ++ dktX4_readAll_2
def dkwX4_readAll_0 : List UInt8 := [42, 42, 180, 0, 184, 181, 0, 194, 42, 3, 181, 0, 184, 42, 3, 181, 0, 191, 42, 3, 181, 0, 224, 42]
abbrev dktX4_readAll_0 : List UInt8 := dkwX4_readAll_0 ++ dktX4_readAll_1
theorem dksX4_readAll_0 : cX4_readAll.data.toList.drop 0 = dktX4_readAll_0 := by decide +kernel
theorem dksX4_readAll_1 : cX4_readAll.data.toList.drop 24 = dktX4_readAll_1 := dk_seg dksX4_readAll_0 24 rfl rfl
theorem dksX4_readAll_2 : cX4_readAll.data.toList.drop 48 = dktX4_readAll_2 := dk_seg dksX4_readAll_1 24 rfl rfl
theorem dksX4_readAll_3 : cX4_readAll.data.toList.drop 71 = dktX4_readAll_3 := dk_seg dksX4_readAll_2 23 rfl rfl
theorem dksX4_readAll_4 : cX4_readAll.data.toList.drop 95 = dktX4_readAll_4 := dk_seg dksX4_readAll_3 24 rfl rfl
theorem dX4_readAll_0 : decode cX4_readAll 0 = .ok (.aload_n 0, 1) := dk_42 (dk_at dksX4_readAll_0 0 rfl rfl)
theorem dX4_readAll_1 : decode cX4_readAll 1 = .ok (.aload_n 0, 1) := dk_42 (dk_at dksX4_readAll_0 1 rfl rfl)
theorem dX4_readAll_2 : decode cX4_readAll 2 = .ok (.getfield 184, 3) := dk_180 0 184 (dk_at dksX4_readAll_0 2 rfl rfl)
theorem dX4_readAll_5 : decode cX4_readAll 5 = .ok (.putfield 194, 3) := dk_181 0 194 (dk_at dksX4_readAll_0 5 rfl rfl)
theorem dX4_readAll_8 : decode cX4_readAll 8 = .ok (.aload_n 0, 1) := dk_42 (dk_at dksX4_readAll_0 8 rfl rfl)
theorem dX4_readAll_9 : decode cX4_readAll 9 = .ok (.iconst 0, 1) := dk_3 (dk_at dksX4_readAll_0 9 rfl rfl)
theorem dX4_readAll_10 : decode cX4_readAll 10 = .ok (.putfield 184, 3) := dk_181 0 184 (dk_at dksX4_readAll_0 10 rfl rfl)
theorem dX4_readAll_13 : decode cX4_readAll 13 = .ok (.aload_n 0, 1) := dk_42 (dk_at dksX4_readAll_0 13 rfl rfl)
theorem dX4_readAll_14 : decode cX4_readAll 14 = .ok (.iconst 0, 1) := dk_3 (dk_at dksX4_readAll_0 14 rfl rfl)
theorem dX4_readAll_15 : decode cX4_readAll 15 = .ok (.putfield 191, 3) := dk_181 0 191 (dk_at dksX4_readAll_0 15 rfl rfl)
theorem dX4_readAll_18 : decode cX4_readAll 18 = .ok (.aload_n 0, 1) := dk_42 (dk_at dksX4_readAll_0 18 rfl rfl)
theorem dX4_readAll_19 : decode cX4_readAll 19 = .ok (.iconst 0, 1) := dk_3 (dk_at dksX4_readAll_0 19 rfl rfl)
theorem dX4_readAll_20 : decode cX4_readAll 20 = .ok (.putfield 224, 3) := dk_181 0 224 (dk_at dksX4_readAll_0 20 rfl rfl)
theorem dX4_readAll_23 : decode cX4_readAll 23 = .ok (.aload_n 0, 1) := dk_42 (dk_at dksX4_readAll_0 23 rfl rfl)
theorem dX4_readAll_24 : decode cX4_readAll 24 = .ok (.iconst (-1), 1) := dk_2 (dk_at dksX4_readAll_1 0 rfl rfl)
theorem dX4_readAll_25 : decode cX4_readAll 25 = .ok (.putfield 13, 3) := dk_181 0 13 (dk_at dksX4_readAll_1 1 rfl rfl)
theorem dX4_readAll_28 : decode cX4_readAll 28 = .ok (.aload_n 0, 1) := dk_42 (dk_at dksX4_readAll_1 4 rfl rfl)
theorem dX4_readAll_29 : decode cX4_readAll 29 = .ok (.iconst 0, 1) := dk_3 (dk_at dksX4_readAll_1 5 rfl rfl)
theorem dX4_readAll_30 : decode cX4_readAll 30 = .ok (.putfield 382, 3) := dk_181 1 126 (dk_at dksX4_readAll_1 6 rfl rfl)
theorem dX4_readAll_33 : decode cX4_readAll 33 = .ok (.aload_n 0, 1) := dk_42 (dk_at dksX4_readAll_1 9 rfl rfl)
theorem dX4_readAll_34 : decode cX4_readAll 34 = .ok (.iconst 0, 1) := dk_3 (dk_at dksX4_readAll_1 10 rfl rfl)
theorem dX4_readAll_35 : decode cX4_readAll 35 = .ok (.putfield 385, 3) := dk_181 1 129 (dk_at dksX4_readAll_1 11 rfl rfl)
theorem dX4_readAll_38 : decode cX4_readAll 38 = .ok (.aload_n 0, 1) := dk_42 (dk_at dksX4_readAll_1 14 rfl rfl)
theorem dX4_readAll_39 : decode cX4_readAll 39 = .ok (.iconst 0, 1) := dk_3 (dk_at dksX4_readAll_1 15 rfl rfl)
theorem dX4_readAll_40 : decode cX4_readAll 40 = .ok (.putfield 388, 3) := dk_181 1 132 (dk_at dksX4_readAll_1 16 rfl rfl)
theorem dX4_readAll_43 : decode cX4_readAll 43 = .ok (.aload_n 0, 1) := dk_42 (dk_at dksX4_readAll_1 19 rfl rfl)
theorem dX4_readAll_44 : decode cX4_readAll 44 = .ok (.iconst 0, 1) := dk_3 (dk_at dksX4_readAll_1 20 rfl rfl)
theorem dX4_readAll_45 : decode cX4_readAll 45 = .ok (.putfield 394, 3) := dk_181 1 138 (dk_at dksX4_readAll_1 21 rfl rfl)
theorem dX4_readAll_48 : decode cX4_readAll 48 = .ok (.aload_n 0, 1) := dk_42 (dk_at dksX4_readAll_2 0 rfl rfl)
theorem dX4_readAll_49 : decode cX4_readAll 49 = .ok (.iconst 0, 1) := dk_3 (dk_at dksX4_readAll_2 1 rfl rfl)
theorem dX4_readAll_50 : decode cX4_readAll 50 = .ok (.putfield 400, 3) := dk_181 1 144 (dk_at dksX4_readAll_2 2 rfl rfl)
theorem dX4_readAll_53 : decode cX4_readAll 53 = .ok (.aload_n 0, 1) := dk_42 (dk_at dksX4_readAll_2 5 rfl rfl)
theorem dX4_readAll_54 : decode cX4_readAll 54 = .ok (.iconst 0, 1) := dk_3 (dk_at dksX4_readAll_2 6 rfl rfl)
theorem dX4_readAll_55 : decode cX4_readAll 55 = .ok (.putfield 409, 3) := dk_181 1 153 (dk_at dksX4_readAll_2 7 rfl rfl)
theorem dX4_readAll_58 : decode cX4_readAll 58 = .ok (.aload_n 0, 1) := dk_42 (dk_at dksX4_readAll_2 10 rfl rfl)
theorem dX4_readAll_59 : decode cX4_readAll 59 = .ok (.iconst 0, 1) := dk_3 (dk_at dksX4_readAll_2 11 rfl rfl)
theorem dX4_readAll_60 : decode cX4_readAll 60 = .ok (.putfield 419, 3) := dk_181 1 163 (dk_at dksX4_readAll_2 12 rfl rfl)
theorem dX4_readAll_63 : decode cX4_readAll 63 = .ok (.aload_n 0, 1) := dk_42 (dk_at dksX4_readAll_2 15 rfl rfl)
theorem dX4_readAll_64 : decode cX4_readAll 64 = .ok (.iconst 0, 1) := dk_3 (dk_at dksX4_readAll_2 16 rfl rfl)
theorem dX4_readAll_65 : decode cX4_readAll 65 = .ok (.putfield 415, 3) := dk_181 1 159 (dk_at dksX4_readAll_2 17 rfl rfl)
theorem dX4_readAll_68 : decode cX4_readAll 68 = .ok (.aload_n 0, 1) := dk_42 (dk_at dksX4_readAll_2 20 rfl rfl)
theorem dX4_readAll_69 : decode cX4_readAll 69 = .ok (.bipush 10, 2) := dk_16 10 (dk_at dksX4_readAll_2 21 rfl rfl)
theorem dX4_readAll_71 : decode cX4_readAll 71 = .ok (.putfield 425, 3) := dk_181 1 169 (dk_at dksX4_readAll_3 0 rfl rfl)
theorem dX4_readAll_74 : decode cX4_readAll 74 = .ok (.aload_n 0, 1) := dk_42 (dk_at dksX4_readAll_3 3 rfl rfl)
theorem dX4_readAll_75 : decode cX4_readAll 75 = .ok (.iconst 0, 1) := dk_3 (dk_at dksX4_readAll_3 4 rfl rfl)
theorem dX4_readAll_76 : decode cX4_readAll 76 = .ok (.putfield 422, 3) := dk_181 1 166 (dk_at dksX4_readAll_3 5 rfl rfl)
theorem dX4_readAll_79 : decode cX4_readAll 79 = .ok (.aload_n 0, 1) := dk_42 (dk_at dksX4_readAll_3 8 rfl rfl)
theorem dX4_readAll_80 : decode cX4_readAll 80 = .ok (.iconst 0, 1) := dk_3 (dk_at dksX4_readAll_3 9 rfl rfl)
theorem dX4_readAll_81 : decode cX4_readAll 81 = .ok (.putfield 317, 3) := dk_181 1 61 (dk_at dksX4_readAll_3 10 rfl rfl)
theorem dX4_readAll_84 : decode cX4_readAll 84 = .ok (.aload_n 0, 1) := dk_42 (dk_at dksX4_readAll_3 13 rfl rfl)
theorem dX4_readAll_85 : decode cX4_readAll 85 = .ok (.invokevirtual 287, 3) := dk_182 1 31 (dk_at dksX4_readAll_3 14 rfl rfl)
theorem dX4_readAll_88 : decode cX4_readAll 88 = .ok (.aload_n 0, 1) := dk_42 (dk_at dksX4_readAll_3 17 rfl rfl)
theorem dX4_readAll_89 : decode cX4_readAll 89 = .ok (.getfield 224, 3) := dk_180 0 224 (dk_at dksX4_readAll_3 18 rfl rfl)
theorem dX4_readAll_92 : decode cX4_readAll 92 = .ok (.ifCond .ne 17, 3) := dk_154 0 17 (dk_at dksX4_readAll_3 21 rfl rfl)
theorem dX4_readAll_95 : decode cX4_readAll 95 = .ok (.aload_n 0, 1) := dk_42 (dk_at dksX4_readAll_4 0 rfl rfl)
theorem dX4_readAll_96 : decode cX4_readAll 96 = .ok (.getfield 211, 3) := dk_180 0 211 (dk_at dksX4_readAll_4 1 rfl rfl)
theorem dX4_readAll_99 : decode cX4_readAll 99 = .ok (.ifCond .eq 10, 3) := dk_153 0 10 (dk_at dksX4_readAll_4 4 rfl rfl)
theorem dX4_readAll_102 : decode cX4_readAll 102 = .ok (.aload_n 0, 1) := dk_42 (dk_at dksX4_readAll_4 7 rfl rfl)
theorem dX4_readAll_103 : decode cX4_readAll 103 = .ok (.invokevirtual 449, 3) := dk_182 1 193 (dk_at dksX4_readAll_4 8 rfl rfl)
theorem dX4_readAll_106 : decode cX4_readAll 106 = .ok (.goto (-18), 3) := dk_167 255 238 (dk_at dksX4_readAll_4 11 rfl rfl)
theorem dX4_readAll_109 : decode cX4_readAll 109 = .ok (.return_, 1) := dk_177 (dk_at dksX4_readAll_4 14 rfl rfl)
abbrev cX4_token : ByteArray := prog_23_method_9_code
def yX4_token : MethodName := ⟨RX4, "token", "()V"⟩
def dkwX4_token_10 : List UInt8 := [181, 0, 211, 42, 180, 0, 211, 6, 159, 0, 13, 42, 89, 180, 0, 191, 28, 96, 181, 0, 191, 177]
abbrev dktX4_token_10 : List UInt8 := dkwX4_token_10 ++ []
def dkwX4_token_9 : List UInt8 := [5, 181, 0, 211, 167, 0, 21, 4, 61, 42, 27, 184, 0, 221, 153, 0, 7, 27, 167, 0, 4, 6]
abbrev dktX4_token_9 : List UInt8 := dkwX4_token_9 ++ dktX4_token_10
def dkwX4_token_8 : List UInt8 := [167, 255, 217, 42, 28, 7, 163, 0, 14, 42, 28, 182, 0, 197, 184, 0, 214, 153, 0, 7, 6, 167, 0, 4]
abbrev dktX4_token_8 : List UInt8 := dkwX4_token_8 ++ dktX4_token_9
def dkwX4_token_7 : List UInt8 := [16, 10, 42, 180, 0, 208, 104, 42, 28, 182, 0, 197, 96, 16, 48, 100, 181, 0, 208, 132, 2, 1]
abbrev dktX4_token_7 : List UInt8 := dkwX4_token_7 ++ dktX4_token_8
def dkwX4_token_6 : List UInt8 := [184, 0, 218, 153, 0, 73, 42, 28, 182, 0, 197, 184, 0, 218, 153, 0, 34, 28, 7, 162, 0, 23, 42]
abbrev dktX4_token_6 : List UInt8 := dkwX4_token_6 ++ dktX4_token_7
def dkwX4_token_5 : List UInt8 := [167, 255, 218, 42, 28, 16, 8, 164, 0, 7, 6, 167, 0, 4, 4, 181, 0, 211, 167, 0, 98, 27]
abbrev dktX4_token_5 : List UInt8 := dkwX4_token_5 ++ dktX4_token_6
def dkwX4_token_4 : List UInt8 := [162, 0, 21, 42, 42, 180, 0, 204, 16, 8, 121, 42, 28, 182, 0, 197, 133, 129, 181, 0, 204, 132, 2, 1]
abbrev dktX4_token_4 : List UInt8 := dkwX4_token_4 ++ dktX4_token_5
def dkwX4_token_3 : List UInt8 := [167, 0, 164, 27, 184, 0, 214, 153, 0, 62, 42, 28, 182, 0, 197, 184, 0, 214, 153, 0, 33, 28, 16, 8]
abbrev dktX4_token_3 : List UInt8 := dkwX4_token_3 ++ dktX4_token_4
def dkwX4_token_2 : List UInt8 := [60, 3, 61, 42, 9, 181, 0, 204, 42, 3, 181, 0, 208, 27, 156, 0, 11, 42, 3, 181, 0, 211]
abbrev dktX4_token_2 : List UInt8 := dkwX4_token_2 ++ dktX4_token_3
def dkwX4_token_1 : List UInt8 := [180, 0, 191, 4, 96, 181, 0, 191, 167, 255, 226, 42, 42, 180, 0, 191, 181, 0, 201, 42, 3, 182, 0, 197]
abbrev dktX4_token_1 : List UInt8 := dkwX4_token_1 ++ dktX4_token_2
def dkwX4_token_0 : List UInt8 := [42, 3, 182, 0, 197, 16, 32, 159, 0, 13, 42, 3, 182, 0, 197, 16, 10, 160, 0, 16, 42, 89]
abbrev dktX4_token_0 : List UInt8 := dkwX4_token_0 ++ dktX4_token_1
theorem dksX4_token_0 : cX4_token.data.toList.drop 0 = dktX4_token_0 := by decide +kernel
theorem dksX4_token_1 : cX4_token.data.toList.drop 22 = dktX4_token_1 := dk_seg dksX4_token_0 22 rfl rfl
theorem dksX4_token_2 : cX4_token.data.toList.drop 46 = dktX4_token_2 := dk_seg dksX4_token_1 24 rfl rfl
theorem dksX4_token_3 : cX4_token.data.toList.drop 68 = dktX4_token_3 := dk_seg dksX4_token_2 22 rfl rfl
theorem dksX4_token_4 : cX4_token.data.toList.drop 92 = dktX4_token_4 := dk_seg dksX4_token_3 24 rfl rfl
theorem dksX4_token_5 : cX4_token.data.toList.drop 116 = dktX4_token_5 := dk_seg dksX4_token_4 24 rfl rfl
theorem dksX4_token_6 : cX4_token.data.toList.drop 138 = dktX4_token_6 := dk_seg dksX4_token_5 22 rfl rfl
theorem dksX4_token_7 : cX4_token.data.toList.drop 161 = dktX4_token_7 := dk_seg dksX4_token_6 23 rfl rfl
theorem dksX4_token_8 : cX4_token.data.toList.drop 183 = dktX4_token_8 := dk_seg dksX4_token_7 22 rfl rfl
theorem dksX4_token_9 : cX4_token.data.toList.drop 207 = dktX4_token_9 := dk_seg dksX4_token_8 24 rfl rfl
theorem dksX4_token_10 : cX4_token.data.toList.drop 229 = dktX4_token_10 := dk_seg dksX4_token_9 22 rfl rfl
theorem dX4_token_0 : decode cX4_token 0 = .ok (.aload_n 0, 1) := dk_42 (dk_at dksX4_token_0 0 rfl rfl)
theorem dX4_token_1 : decode cX4_token 1 = .ok (.iconst 0, 1) := dk_3 (dk_at dksX4_token_0 1 rfl rfl)
theorem dX4_token_2 : decode cX4_token 2 = .ok (.invokevirtual 197, 3) := dk_182 0 197 (dk_at dksX4_token_0 2 rfl rfl)
theorem dX4_token_5 : decode cX4_token 5 = .ok (.bipush 32, 2) := dk_16 32 (dk_at dksX4_token_0 5 rfl rfl)
theorem dX4_token_7 : decode cX4_token 7 = .ok (.if_icmp .eq 13, 3) := dk_159 0 13 (dk_at dksX4_token_0 7 rfl rfl)
theorem dX4_token_10 : decode cX4_token 10 = .ok (.aload_n 0, 1) := dk_42 (dk_at dksX4_token_0 10 rfl rfl)
theorem dX4_token_11 : decode cX4_token 11 = .ok (.iconst 0, 1) := dk_3 (dk_at dksX4_token_0 11 rfl rfl)
theorem dX4_token_12 : decode cX4_token 12 = .ok (.invokevirtual 197, 3) := dk_182 0 197 (dk_at dksX4_token_0 12 rfl rfl)
theorem dX4_token_15 : decode cX4_token 15 = .ok (.bipush 10, 2) := dk_16 10 (dk_at dksX4_token_0 15 rfl rfl)
theorem dX4_token_17 : decode cX4_token 17 = .ok (.if_icmp .ne 16, 3) := dk_160 0 16 (dk_at dksX4_token_0 17 rfl rfl)
theorem dX4_token_20 : decode cX4_token 20 = .ok (.aload_n 0, 1) := dk_42 (dk_at dksX4_token_0 20 rfl rfl)
theorem dX4_token_21 : decode cX4_token 21 = .ok (.dup, 1) := dk_89 (dk_at dksX4_token_0 21 rfl rfl)
theorem dX4_token_22 : decode cX4_token 22 = .ok (.getfield 191, 3) := dk_180 0 191 (dk_at dksX4_token_1 0 rfl rfl)
theorem dX4_token_25 : decode cX4_token 25 = .ok (.iconst 1, 1) := dk_4 (dk_at dksX4_token_1 3 rfl rfl)
theorem dX4_token_26 : decode cX4_token 26 = .ok (.iadd, 1) := dk_96 (dk_at dksX4_token_1 4 rfl rfl)
theorem dX4_token_27 : decode cX4_token 27 = .ok (.putfield 191, 3) := dk_181 0 191 (dk_at dksX4_token_1 5 rfl rfl)
theorem dX4_token_30 : decode cX4_token 30 = .ok (.goto (-30), 3) := dk_167 255 226 (dk_at dksX4_token_1 8 rfl rfl)
theorem dX4_token_33 : decode cX4_token 33 = .ok (.aload_n 0, 1) := dk_42 (dk_at dksX4_token_1 11 rfl rfl)
theorem dX4_token_34 : decode cX4_token 34 = .ok (.aload_n 0, 1) := dk_42 (dk_at dksX4_token_1 12 rfl rfl)
theorem dX4_token_35 : decode cX4_token 35 = .ok (.getfield 191, 3) := dk_180 0 191 (dk_at dksX4_token_1 13 rfl rfl)
theorem dX4_token_38 : decode cX4_token 38 = .ok (.putfield 201, 3) := dk_181 0 201 (dk_at dksX4_token_1 16 rfl rfl)
theorem dX4_token_41 : decode cX4_token 41 = .ok (.aload_n 0, 1) := dk_42 (dk_at dksX4_token_1 19 rfl rfl)
theorem dX4_token_42 : decode cX4_token 42 = .ok (.iconst 0, 1) := dk_3 (dk_at dksX4_token_1 20 rfl rfl)
theorem dX4_token_43 : decode cX4_token 43 = .ok (.invokevirtual 197, 3) := dk_182 0 197 (dk_at dksX4_token_1 21 rfl rfl)
theorem dX4_token_46 : decode cX4_token 46 = .ok (.istore_n 1, 1) := dk_60 (dk_at dksX4_token_2 0 rfl rfl)
theorem dX4_token_47 : decode cX4_token 47 = .ok (.iconst 0, 1) := dk_3 (dk_at dksX4_token_2 1 rfl rfl)
theorem dX4_token_48 : decode cX4_token 48 = .ok (.istore_n 2, 1) := dk_61 (dk_at dksX4_token_2 2 rfl rfl)
theorem dX4_token_49 : decode cX4_token 49 = .ok (.aload_n 0, 1) := dk_42 (dk_at dksX4_token_2 3 rfl rfl)
theorem dX4_token_50 : decode cX4_token 50 = .ok (.lconst 0, 1) := dk_9 (dk_at dksX4_token_2 4 rfl rfl)
theorem dX4_token_51 : decode cX4_token 51 = .ok (.putfield 204, 3) := dk_181 0 204 (dk_at dksX4_token_2 5 rfl rfl)
theorem dX4_token_54 : decode cX4_token 54 = .ok (.aload_n 0, 1) := dk_42 (dk_at dksX4_token_2 8 rfl rfl)
theorem dX4_token_55 : decode cX4_token 55 = .ok (.iconst 0, 1) := dk_3 (dk_at dksX4_token_2 9 rfl rfl)
theorem dX4_token_56 : decode cX4_token 56 = .ok (.putfield 208, 3) := dk_181 0 208 (dk_at dksX4_token_2 10 rfl rfl)
theorem dX4_token_59 : decode cX4_token 59 = .ok (.iload_n 1, 1) := dk_27 (dk_at dksX4_token_2 13 rfl rfl)
theorem dX4_token_60 : decode cX4_token 60 = .ok (.ifCond .ge 11, 3) := dk_156 0 11 (dk_at dksX4_token_2 14 rfl rfl)
theorem dX4_token_63 : decode cX4_token 63 = .ok (.aload_n 0, 1) := dk_42 (dk_at dksX4_token_2 17 rfl rfl)
theorem dX4_token_64 : decode cX4_token 64 = .ok (.iconst 0, 1) := dk_3 (dk_at dksX4_token_2 18 rfl rfl)
theorem dX4_token_65 : decode cX4_token 65 = .ok (.putfield 211, 3) := dk_181 0 211 (dk_at dksX4_token_2 19 rfl rfl)
theorem dX4_token_68 : decode cX4_token 68 = .ok (.goto 164, 3) := dk_167 0 164 (dk_at dksX4_token_3 0 rfl rfl)
theorem dX4_token_71 : decode cX4_token 71 = .ok (.iload_n 1, 1) := dk_27 (dk_at dksX4_token_3 3 rfl rfl)
theorem dX4_token_72 : decode cX4_token 72 = .ok (.invokestatic 214, 3) := dk_184 0 214 (dk_at dksX4_token_3 4 rfl rfl)
theorem dX4_token_75 : decode cX4_token 75 = .ok (.ifCond .eq 62, 3) := dk_153 0 62 (dk_at dksX4_token_3 7 rfl rfl)
theorem dX4_token_78 : decode cX4_token 78 = .ok (.aload_n 0, 1) := dk_42 (dk_at dksX4_token_3 10 rfl rfl)
theorem dX4_token_79 : decode cX4_token 79 = .ok (.iload_n 2, 1) := dk_28 (dk_at dksX4_token_3 11 rfl rfl)
theorem dX4_token_80 : decode cX4_token 80 = .ok (.invokevirtual 197, 3) := dk_182 0 197 (dk_at dksX4_token_3 12 rfl rfl)
theorem dX4_token_83 : decode cX4_token 83 = .ok (.invokestatic 214, 3) := dk_184 0 214 (dk_at dksX4_token_3 15 rfl rfl)
theorem dX4_token_86 : decode cX4_token 86 = .ok (.ifCond .eq 33, 3) := dk_153 0 33 (dk_at dksX4_token_3 18 rfl rfl)
theorem dX4_token_89 : decode cX4_token 89 = .ok (.iload_n 2, 1) := dk_28 (dk_at dksX4_token_3 21 rfl rfl)
theorem dX4_token_90 : decode cX4_token 90 = .ok (.bipush 8, 2) := dk_16 8 (dk_at dksX4_token_3 22 rfl rfl)
theorem dX4_token_92 : decode cX4_token 92 = .ok (.if_icmp .ge 21, 3) := dk_162 0 21 (dk_at dksX4_token_4 0 rfl rfl)
theorem dX4_token_95 : decode cX4_token 95 = .ok (.aload_n 0, 1) := dk_42 (dk_at dksX4_token_4 3 rfl rfl)
theorem dX4_token_96 : decode cX4_token 96 = .ok (.aload_n 0, 1) := dk_42 (dk_at dksX4_token_4 4 rfl rfl)
theorem dX4_token_97 : decode cX4_token 97 = .ok (.getfield 204, 3) := dk_180 0 204 (dk_at dksX4_token_4 5 rfl rfl)
theorem dX4_token_100 : decode cX4_token 100 = .ok (.bipush 8, 2) := dk_16 8 (dk_at dksX4_token_4 8 rfl rfl)
theorem dX4_token_102 : decode cX4_token 102 = .ok (.lshl, 1) := dk_121 (dk_at dksX4_token_4 10 rfl rfl)
theorem dX4_token_103 : decode cX4_token 103 = .ok (.aload_n 0, 1) := dk_42 (dk_at dksX4_token_4 11 rfl rfl)
theorem dX4_token_104 : decode cX4_token 104 = .ok (.iload_n 2, 1) := dk_28 (dk_at dksX4_token_4 12 rfl rfl)
theorem dX4_token_105 : decode cX4_token 105 = .ok (.invokevirtual 197, 3) := dk_182 0 197 (dk_at dksX4_token_4 13 rfl rfl)
theorem dX4_token_108 : decode cX4_token 108 = .ok (.i2l, 1) := dk_133 (dk_at dksX4_token_4 16 rfl rfl)
theorem dX4_token_109 : decode cX4_token 109 = .ok (.lor, 1) := dk_129 (dk_at dksX4_token_4 17 rfl rfl)
theorem dX4_token_110 : decode cX4_token 110 = .ok (.putfield 204, 3) := dk_181 0 204 (dk_at dksX4_token_4 18 rfl rfl)
theorem dX4_token_113 : decode cX4_token 113 = .ok (.iinc 2 1, 3) := dk_132 2 1 (dk_at dksX4_token_4 21 rfl rfl)
theorem dX4_token_116 : decode cX4_token 116 = .ok (.goto (-38), 3) := dk_167 255 218 (dk_at dksX4_token_5 0 rfl rfl)
theorem dX4_token_119 : decode cX4_token 119 = .ok (.aload_n 0, 1) := dk_42 (dk_at dksX4_token_5 3 rfl rfl)
theorem dX4_token_120 : decode cX4_token 120 = .ok (.iload_n 2, 1) := dk_28 (dk_at dksX4_token_5 4 rfl rfl)
theorem dX4_token_121 : decode cX4_token 121 = .ok (.bipush 8, 2) := dk_16 8 (dk_at dksX4_token_5 5 rfl rfl)
theorem dX4_token_123 : decode cX4_token 123 = .ok (.if_icmp .le 7, 3) := dk_164 0 7 (dk_at dksX4_token_5 7 rfl rfl)
theorem dX4_token_126 : decode cX4_token 126 = .ok (.iconst 3, 1) := dk_6 (dk_at dksX4_token_5 10 rfl rfl)
theorem dX4_token_127 : decode cX4_token 127 = .ok (.goto 4, 3) := dk_167 0 4 (dk_at dksX4_token_5 11 rfl rfl)
theorem dX4_token_130 : decode cX4_token 130 = .ok (.iconst 1, 1) := dk_4 (dk_at dksX4_token_5 14 rfl rfl)
theorem dX4_token_131 : decode cX4_token 131 = .ok (.putfield 211, 3) := dk_181 0 211 (dk_at dksX4_token_5 15 rfl rfl)
theorem dX4_token_134 : decode cX4_token 134 = .ok (.goto 98, 3) := dk_167 0 98 (dk_at dksX4_token_5 18 rfl rfl)
theorem dX4_token_137 : decode cX4_token 137 = .ok (.iload_n 1, 1) := dk_27 (dk_at dksX4_token_5 21 rfl rfl)
theorem dX4_token_138 : decode cX4_token 138 = .ok (.invokestatic 218, 3) := dk_184 0 218 (dk_at dksX4_token_6 0 rfl rfl)
theorem dX4_token_141 : decode cX4_token 141 = .ok (.ifCond .eq 73, 3) := dk_153 0 73 (dk_at dksX4_token_6 3 rfl rfl)
theorem dX4_token_144 : decode cX4_token 144 = .ok (.aload_n 0, 1) := dk_42 (dk_at dksX4_token_6 6 rfl rfl)
theorem dX4_token_145 : decode cX4_token 145 = .ok (.iload_n 2, 1) := dk_28 (dk_at dksX4_token_6 7 rfl rfl)
theorem dX4_token_146 : decode cX4_token 146 = .ok (.invokevirtual 197, 3) := dk_182 0 197 (dk_at dksX4_token_6 8 rfl rfl)
theorem dX4_token_149 : decode cX4_token 149 = .ok (.invokestatic 218, 3) := dk_184 0 218 (dk_at dksX4_token_6 11 rfl rfl)
theorem dX4_token_152 : decode cX4_token 152 = .ok (.ifCond .eq 34, 3) := dk_153 0 34 (dk_at dksX4_token_6 14 rfl rfl)
theorem dX4_token_155 : decode cX4_token 155 = .ok (.iload_n 2, 1) := dk_28 (dk_at dksX4_token_6 17 rfl rfl)
theorem dX4_token_156 : decode cX4_token 156 = .ok (.iconst 4, 1) := dk_7 (dk_at dksX4_token_6 18 rfl rfl)
theorem dX4_token_157 : decode cX4_token 157 = .ok (.if_icmp .ge 23, 3) := dk_162 0 23 (dk_at dksX4_token_6 19 rfl rfl)
theorem dX4_token_160 : decode cX4_token 160 = .ok (.aload_n 0, 1) := dk_42 (dk_at dksX4_token_6 22 rfl rfl)
theorem dX4_token_161 : decode cX4_token 161 = .ok (.bipush 10, 2) := dk_16 10 (dk_at dksX4_token_7 0 rfl rfl)
theorem dX4_token_163 : decode cX4_token 163 = .ok (.aload_n 0, 1) := dk_42 (dk_at dksX4_token_7 2 rfl rfl)
theorem dX4_token_164 : decode cX4_token 164 = .ok (.getfield 208, 3) := dk_180 0 208 (dk_at dksX4_token_7 3 rfl rfl)
theorem dX4_token_167 : decode cX4_token 167 = .ok (.imul, 1) := dk_104 (dk_at dksX4_token_7 6 rfl rfl)
theorem dX4_token_168 : decode cX4_token 168 = .ok (.aload_n 0, 1) := dk_42 (dk_at dksX4_token_7 7 rfl rfl)
theorem dX4_token_169 : decode cX4_token 169 = .ok (.iload_n 2, 1) := dk_28 (dk_at dksX4_token_7 8 rfl rfl)
theorem dX4_token_170 : decode cX4_token 170 = .ok (.invokevirtual 197, 3) := dk_182 0 197 (dk_at dksX4_token_7 9 rfl rfl)
theorem dX4_token_173 : decode cX4_token 173 = .ok (.iadd, 1) := dk_96 (dk_at dksX4_token_7 12 rfl rfl)
theorem dX4_token_174 : decode cX4_token 174 = .ok (.bipush 48, 2) := dk_16 48 (dk_at dksX4_token_7 13 rfl rfl)
theorem dX4_token_176 : decode cX4_token 176 = .ok (.isub, 1) := dk_100 (dk_at dksX4_token_7 15 rfl rfl)
theorem dX4_token_177 : decode cX4_token 177 = .ok (.putfield 208, 3) := dk_181 0 208 (dk_at dksX4_token_7 16 rfl rfl)
theorem dX4_token_180 : decode cX4_token 180 = .ok (.iinc 2 1, 3) := dk_132 2 1 (dk_at dksX4_token_7 19 rfl rfl)
theorem dX4_token_183 : decode cX4_token 183 = .ok (.goto (-39), 3) := dk_167 255 217 (dk_at dksX4_token_8 0 rfl rfl)
theorem dX4_token_186 : decode cX4_token 186 = .ok (.aload_n 0, 1) := dk_42 (dk_at dksX4_token_8 3 rfl rfl)
theorem dX4_token_187 : decode cX4_token 187 = .ok (.iload_n 2, 1) := dk_28 (dk_at dksX4_token_8 4 rfl rfl)
theorem dX4_token_188 : decode cX4_token 188 = .ok (.iconst 4, 1) := dk_7 (dk_at dksX4_token_8 5 rfl rfl)
theorem dX4_token_189 : decode cX4_token 189 = .ok (.if_icmp .gt 14, 3) := dk_163 0 14 (dk_at dksX4_token_8 6 rfl rfl)
theorem dX4_token_192 : decode cX4_token 192 = .ok (.aload_n 0, 1) := dk_42 (dk_at dksX4_token_8 9 rfl rfl)
theorem dX4_token_193 : decode cX4_token 193 = .ok (.iload_n 2, 1) := dk_28 (dk_at dksX4_token_8 10 rfl rfl)
theorem dX4_token_194 : decode cX4_token 194 = .ok (.invokevirtual 197, 3) := dk_182 0 197 (dk_at dksX4_token_8 11 rfl rfl)
theorem dX4_token_197 : decode cX4_token 197 = .ok (.invokestatic 214, 3) := dk_184 0 214 (dk_at dksX4_token_8 14 rfl rfl)
theorem dX4_token_200 : decode cX4_token 200 = .ok (.ifCond .eq 7, 3) := dk_153 0 7 (dk_at dksX4_token_8 17 rfl rfl)
theorem dX4_token_203 : decode cX4_token 203 = .ok (.iconst 3, 1) := dk_6 (dk_at dksX4_token_8 20 rfl rfl)
theorem dX4_token_204 : decode cX4_token 204 = .ok (.goto 4, 3) := dk_167 0 4 (dk_at dksX4_token_8 21 rfl rfl)
theorem dX4_token_207 : decode cX4_token 207 = .ok (.iconst 2, 1) := dk_5 (dk_at dksX4_token_9 0 rfl rfl)
theorem dX4_token_208 : decode cX4_token 208 = .ok (.putfield 211, 3) := dk_181 0 211 (dk_at dksX4_token_9 1 rfl rfl)
theorem dX4_token_211 : decode cX4_token 211 = .ok (.goto 21, 3) := dk_167 0 21 (dk_at dksX4_token_9 4 rfl rfl)
theorem dX4_token_214 : decode cX4_token 214 = .ok (.iconst 1, 1) := dk_4 (dk_at dksX4_token_9 7 rfl rfl)
theorem dX4_token_215 : decode cX4_token 215 = .ok (.istore_n 2, 1) := dk_61 (dk_at dksX4_token_9 8 rfl rfl)
theorem dX4_token_216 : decode cX4_token 216 = .ok (.aload_n 0, 1) := dk_42 (dk_at dksX4_token_9 9 rfl rfl)
theorem dX4_token_217 : decode cX4_token 217 = .ok (.iload_n 1, 1) := dk_27 (dk_at dksX4_token_9 10 rfl rfl)
theorem dX4_token_218 : decode cX4_token 218 = .ok (.invokestatic 221, 3) := dk_184 0 221 (dk_at dksX4_token_9 11 rfl rfl)
theorem dX4_token_221 : decode cX4_token 221 = .ok (.ifCond .eq 7, 3) := dk_153 0 7 (dk_at dksX4_token_9 14 rfl rfl)
theorem dX4_token_224 : decode cX4_token 224 = .ok (.iload_n 1, 1) := dk_27 (dk_at dksX4_token_9 17 rfl rfl)
theorem dX4_token_225 : decode cX4_token 225 = .ok (.goto 4, 3) := dk_167 0 4 (dk_at dksX4_token_9 18 rfl rfl)
theorem dX4_token_228 : decode cX4_token 228 = .ok (.iconst 3, 1) := dk_6 (dk_at dksX4_token_9 21 rfl rfl)
theorem dX4_token_229 : decode cX4_token 229 = .ok (.putfield 211, 3) := dk_181 0 211 (dk_at dksX4_token_10 0 rfl rfl)
theorem dX4_token_232 : decode cX4_token 232 = .ok (.aload_n 0, 1) := dk_42 (dk_at dksX4_token_10 3 rfl rfl)
theorem dX4_token_233 : decode cX4_token 233 = .ok (.getfield 211, 3) := dk_180 0 211 (dk_at dksX4_token_10 4 rfl rfl)
theorem dX4_token_236 : decode cX4_token 236 = .ok (.iconst 3, 1) := dk_6 (dk_at dksX4_token_10 7 rfl rfl)
theorem dX4_token_237 : decode cX4_token 237 = .ok (.if_icmp .eq 13, 3) := dk_159 0 13 (dk_at dksX4_token_10 8 rfl rfl)
theorem dX4_token_240 : decode cX4_token 240 = .ok (.aload_n 0, 1) := dk_42 (dk_at dksX4_token_10 11 rfl rfl)
theorem dX4_token_241 : decode cX4_token 241 = .ok (.dup, 1) := dk_89 (dk_at dksX4_token_10 12 rfl rfl)
theorem dX4_token_242 : decode cX4_token 242 = .ok (.getfield 191, 3) := dk_180 0 191 (dk_at dksX4_token_10 13 rfl rfl)
theorem dX4_token_245 : decode cX4_token 245 = .ok (.iload_n 2, 1) := dk_28 (dk_at dksX4_token_10 16 rfl rfl)
theorem dX4_token_246 : decode cX4_token 246 = .ok (.iadd, 1) := dk_96 (dk_at dksX4_token_10 17 rfl rfl)
theorem dX4_token_247 : decode cX4_token 247 = .ok (.putfield 191, 3) := dk_181 0 191 (dk_at dksX4_token_10 18 rfl rfl)
theorem dX4_token_250 : decode cX4_token 250 = .ok (.return_, 1) := dk_177 (dk_at dksX4_token_10 21 rfl rfl)
abbrev cX4_here : ByteArray := prog_23_method_5_code
def yX4_here : MethodName := ⟨RX4, "here", "(I)I"⟩
def dkwX4_here_1 : List UInt8 := [167, 0, 4, 2, 172]
abbrev dktX4_here_1 : List UInt8 := dkwX4_here_1 ++ []
def dkwX4_here_0 : List UInt8 := [42, 180, 0, 191, 27, 96, 42, 180, 0, 194, 162, 0, 17, 42, 180, 0, 7, 42, 180, 0, 191, 27, 96, 46]
abbrev dktX4_here_0 : List UInt8 := dkwX4_here_0 ++ dktX4_here_1
theorem dksX4_here_0 : cX4_here.data.toList.drop 0 = dktX4_here_0 := by decide +kernel
theorem dksX4_here_1 : cX4_here.data.toList.drop 24 = dktX4_here_1 := dk_seg dksX4_here_0 24 rfl rfl
theorem dX4_here_0 : decode cX4_here 0 = .ok (.aload_n 0, 1) := dk_42 (dk_at dksX4_here_0 0 rfl rfl)
theorem dX4_here_1 : decode cX4_here 1 = .ok (.getfield 191, 3) := dk_180 0 191 (dk_at dksX4_here_0 1 rfl rfl)
theorem dX4_here_4 : decode cX4_here 4 = .ok (.iload_n 1, 1) := dk_27 (dk_at dksX4_here_0 4 rfl rfl)
theorem dX4_here_5 : decode cX4_here 5 = .ok (.iadd, 1) := dk_96 (dk_at dksX4_here_0 5 rfl rfl)
theorem dX4_here_6 : decode cX4_here 6 = .ok (.aload_n 0, 1) := dk_42 (dk_at dksX4_here_0 6 rfl rfl)
theorem dX4_here_7 : decode cX4_here 7 = .ok (.getfield 194, 3) := dk_180 0 194 (dk_at dksX4_here_0 7 rfl rfl)
theorem dX4_here_10 : decode cX4_here 10 = .ok (.if_icmp .ge 17, 3) := dk_162 0 17 (dk_at dksX4_here_0 10 rfl rfl)
theorem dX4_here_13 : decode cX4_here 13 = .ok (.aload_n 0, 1) := dk_42 (dk_at dksX4_here_0 13 rfl rfl)
theorem dX4_here_14 : decode cX4_here 14 = .ok (.getfield 7, 3) := dk_180 0 7 (dk_at dksX4_here_0 14 rfl rfl)
theorem dX4_here_17 : decode cX4_here 17 = .ok (.aload_n 0, 1) := dk_42 (dk_at dksX4_here_0 17 rfl rfl)
theorem dX4_here_18 : decode cX4_here 18 = .ok (.getfield 191, 3) := dk_180 0 191 (dk_at dksX4_here_0 18 rfl rfl)
theorem dX4_here_21 : decode cX4_here 21 = .ok (.iload_n 1, 1) := dk_27 (dk_at dksX4_here_0 21 rfl rfl)
theorem dX4_here_22 : decode cX4_here 22 = .ok (.iadd, 1) := dk_96 (dk_at dksX4_here_0 22 rfl rfl)
theorem dX4_here_23 : decode cX4_here 23 = .ok (.iaload, 1) := dk_46 (dk_at dksX4_here_0 23 rfl rfl)
theorem dX4_here_24 : decode cX4_here 24 = .ok (.goto 4, 3) := dk_167 0 4 (dk_at dksX4_here_1 0 rfl rfl)
theorem dX4_here_27 : decode cX4_here 27 = .ok (.iconst (-1), 1) := dk_2 (dk_at dksX4_here_1 3 rfl rfl)
theorem dX4_here_28 : decode cX4_here 28 = .ok (.ireturn, 1) := dk_172 (dk_at dksX4_here_1 4 rfl rfl)
abbrev cX4_isLetter : ByteArray := prog_23_method_6_code
def yX4_isLetter : MethodName := ⟨RX4, "isLetter", "(I)Z"⟩
def dkwX4_isLetter_0 : List UInt8 := [26, 16, 97, 161, 0, 13, 26, 16, 122, 163, 0, 7, 4, 167, 0, 4, 3, 172]
abbrev dktX4_isLetter_0 : List UInt8 := dkwX4_isLetter_0 ++ []
theorem dksX4_isLetter_0 : cX4_isLetter.data.toList.drop 0 = dktX4_isLetter_0 := by decide +kernel
theorem dX4_isLetter_0 : decode cX4_isLetter 0 = .ok (.iload_n 0, 1) := dk_26 (dk_at dksX4_isLetter_0 0 rfl rfl)
theorem dX4_isLetter_1 : decode cX4_isLetter 1 = .ok (.bipush 97, 2) := dk_16 97 (dk_at dksX4_isLetter_0 1 rfl rfl)
theorem dX4_isLetter_3 : decode cX4_isLetter 3 = .ok (.if_icmp .lt 13, 3) := dk_161 0 13 (dk_at dksX4_isLetter_0 3 rfl rfl)
theorem dX4_isLetter_6 : decode cX4_isLetter 6 = .ok (.iload_n 0, 1) := dk_26 (dk_at dksX4_isLetter_0 6 rfl rfl)
theorem dX4_isLetter_7 : decode cX4_isLetter 7 = .ok (.bipush 122, 2) := dk_16 122 (dk_at dksX4_isLetter_0 7 rfl rfl)
theorem dX4_isLetter_9 : decode cX4_isLetter 9 = .ok (.if_icmp .gt 7, 3) := dk_163 0 7 (dk_at dksX4_isLetter_0 9 rfl rfl)
theorem dX4_isLetter_12 : decode cX4_isLetter 12 = .ok (.iconst 1, 1) := dk_4 (dk_at dksX4_isLetter_0 12 rfl rfl)
theorem dX4_isLetter_13 : decode cX4_isLetter 13 = .ok (.goto 4, 3) := dk_167 0 4 (dk_at dksX4_isLetter_0 13 rfl rfl)
theorem dX4_isLetter_16 : decode cX4_isLetter 16 = .ok (.iconst 0, 1) := dk_3 (dk_at dksX4_isLetter_0 16 rfl rfl)
theorem dX4_isLetter_17 : decode cX4_isLetter 17 = .ok (.ireturn, 1) := dk_172 (dk_at dksX4_isLetter_0 17 rfl rfl)
abbrev cX4_isDigit : ByteArray := prog_23_method_7_code
def yX4_isDigit : MethodName := ⟨RX4, "isDigit", "(I)Z"⟩
def dkwX4_isDigit_0 : List UInt8 := [26, 16, 48, 161, 0, 13, 26, 16, 57, 163, 0, 7, 4, 167, 0, 4, 3, 172]
abbrev dktX4_isDigit_0 : List UInt8 := dkwX4_isDigit_0 ++ []
theorem dksX4_isDigit_0 : cX4_isDigit.data.toList.drop 0 = dktX4_isDigit_0 := by decide +kernel
theorem dX4_isDigit_0 : decode cX4_isDigit 0 = .ok (.iload_n 0, 1) := dk_26 (dk_at dksX4_isDigit_0 0 rfl rfl)
theorem dX4_isDigit_1 : decode cX4_isDigit 1 = .ok (.bipush 48, 2) := dk_16 48 (dk_at dksX4_isDigit_0 1 rfl rfl)
theorem dX4_isDigit_3 : decode cX4_isDigit 3 = .ok (.if_icmp .lt 13, 3) := dk_161 0 13 (dk_at dksX4_isDigit_0 3 rfl rfl)
theorem dX4_isDigit_6 : decode cX4_isDigit 6 = .ok (.iload_n 0, 1) := dk_26 (dk_at dksX4_isDigit_0 6 rfl rfl)
theorem dX4_isDigit_7 : decode cX4_isDigit 7 = .ok (.bipush 57, 2) := dk_16 57 (dk_at dksX4_isDigit_0 7 rfl rfl)
theorem dX4_isDigit_9 : decode cX4_isDigit 9 = .ok (.if_icmp .gt 7, 3) := dk_163 0 7 (dk_at dksX4_isDigit_0 9 rfl rfl)
theorem dX4_isDigit_12 : decode cX4_isDigit 12 = .ok (.iconst 1, 1) := dk_4 (dk_at dksX4_isDigit_0 12 rfl rfl)
theorem dX4_isDigit_13 : decode cX4_isDigit 13 = .ok (.goto 4, 3) := dk_167 0 4 (dk_at dksX4_isDigit_0 13 rfl rfl)
theorem dX4_isDigit_16 : decode cX4_isDigit 16 = .ok (.iconst 0, 1) := dk_3 (dk_at dksX4_isDigit_0 16 rfl rfl)
theorem dX4_isDigit_17 : decode cX4_isDigit 17 = .ok (.ireturn, 1) := dk_172 (dk_at dksX4_isDigit_0 17 rfl rfl)
abbrev cX4_isSign : ByteArray := prog_23_method_8_code
def yX4_isSign : MethodName := ⟨RX4, "isSign", "(I)Z"⟩
def dkwX4_isSign_2 : List UInt8 := [26, 16, 42, 159, 0, 15, 26, 16, 47, 159, 0, 9, 26, 16, 37, 160, 0, 7, 4, 167, 0, 4, 3, 172]
abbrev dktX4_isSign_2 : List UInt8 := dkwX4_isSign_2 ++ []
def dkwX4_isSign_1 : List UInt8 := [26, 16, 62, 159, 0, 39, 26, 16, 61, 159, 0, 33, 26, 16, 43, 159, 0, 27, 26, 16, 45, 159, 0, 21]
abbrev dktX4_isSign_1 : List UInt8 := dkwX4_isSign_1 ++ dktX4_isSign_2
def dkwX4_isSign_0 : List UInt8 := [26, 16, 59, 159, 0, 63, 26, 16, 40, 159, 0, 57, 26, 16, 41, 159, 0, 51, 26, 16, 60, 159, 0, 45]
abbrev dktX4_isSign_0 : List UInt8 := dkwX4_isSign_0 ++ dktX4_isSign_1
theorem dksX4_isSign_0 : cX4_isSign.data.toList.drop 0 = dktX4_isSign_0 := by decide +kernel
theorem dksX4_isSign_1 : cX4_isSign.data.toList.drop 24 = dktX4_isSign_1 := dk_seg dksX4_isSign_0 24 rfl rfl
theorem dksX4_isSign_2 : cX4_isSign.data.toList.drop 48 = dktX4_isSign_2 := dk_seg dksX4_isSign_1 24 rfl rfl
theorem dX4_isSign_0 : decode cX4_isSign 0 = .ok (.iload_n 0, 1) := dk_26 (dk_at dksX4_isSign_0 0 rfl rfl)
theorem dX4_isSign_1 : decode cX4_isSign 1 = .ok (.bipush 59, 2) := dk_16 59 (dk_at dksX4_isSign_0 1 rfl rfl)
theorem dX4_isSign_3 : decode cX4_isSign 3 = .ok (.if_icmp .eq 63, 3) := dk_159 0 63 (dk_at dksX4_isSign_0 3 rfl rfl)
theorem dX4_isSign_6 : decode cX4_isSign 6 = .ok (.iload_n 0, 1) := dk_26 (dk_at dksX4_isSign_0 6 rfl rfl)
theorem dX4_isSign_7 : decode cX4_isSign 7 = .ok (.bipush 40, 2) := dk_16 40 (dk_at dksX4_isSign_0 7 rfl rfl)
theorem dX4_isSign_9 : decode cX4_isSign 9 = .ok (.if_icmp .eq 57, 3) := dk_159 0 57 (dk_at dksX4_isSign_0 9 rfl rfl)
theorem dX4_isSign_12 : decode cX4_isSign 12 = .ok (.iload_n 0, 1) := dk_26 (dk_at dksX4_isSign_0 12 rfl rfl)
theorem dX4_isSign_13 : decode cX4_isSign 13 = .ok (.bipush 41, 2) := dk_16 41 (dk_at dksX4_isSign_0 13 rfl rfl)
theorem dX4_isSign_15 : decode cX4_isSign 15 = .ok (.if_icmp .eq 51, 3) := dk_159 0 51 (dk_at dksX4_isSign_0 15 rfl rfl)
theorem dX4_isSign_18 : decode cX4_isSign 18 = .ok (.iload_n 0, 1) := dk_26 (dk_at dksX4_isSign_0 18 rfl rfl)
theorem dX4_isSign_19 : decode cX4_isSign 19 = .ok (.bipush 60, 2) := dk_16 60 (dk_at dksX4_isSign_0 19 rfl rfl)
theorem dX4_isSign_21 : decode cX4_isSign 21 = .ok (.if_icmp .eq 45, 3) := dk_159 0 45 (dk_at dksX4_isSign_0 21 rfl rfl)
theorem dX4_isSign_24 : decode cX4_isSign 24 = .ok (.iload_n 0, 1) := dk_26 (dk_at dksX4_isSign_1 0 rfl rfl)
theorem dX4_isSign_25 : decode cX4_isSign 25 = .ok (.bipush 62, 2) := dk_16 62 (dk_at dksX4_isSign_1 1 rfl rfl)
theorem dX4_isSign_27 : decode cX4_isSign 27 = .ok (.if_icmp .eq 39, 3) := dk_159 0 39 (dk_at dksX4_isSign_1 3 rfl rfl)
theorem dX4_isSign_30 : decode cX4_isSign 30 = .ok (.iload_n 0, 1) := dk_26 (dk_at dksX4_isSign_1 6 rfl rfl)
theorem dX4_isSign_31 : decode cX4_isSign 31 = .ok (.bipush 61, 2) := dk_16 61 (dk_at dksX4_isSign_1 7 rfl rfl)
theorem dX4_isSign_33 : decode cX4_isSign 33 = .ok (.if_icmp .eq 33, 3) := dk_159 0 33 (dk_at dksX4_isSign_1 9 rfl rfl)
theorem dX4_isSign_36 : decode cX4_isSign 36 = .ok (.iload_n 0, 1) := dk_26 (dk_at dksX4_isSign_1 12 rfl rfl)
theorem dX4_isSign_37 : decode cX4_isSign 37 = .ok (.bipush 43, 2) := dk_16 43 (dk_at dksX4_isSign_1 13 rfl rfl)
theorem dX4_isSign_39 : decode cX4_isSign 39 = .ok (.if_icmp .eq 27, 3) := dk_159 0 27 (dk_at dksX4_isSign_1 15 rfl rfl)
theorem dX4_isSign_42 : decode cX4_isSign 42 = .ok (.iload_n 0, 1) := dk_26 (dk_at dksX4_isSign_1 18 rfl rfl)
theorem dX4_isSign_43 : decode cX4_isSign 43 = .ok (.bipush 45, 2) := dk_16 45 (dk_at dksX4_isSign_1 19 rfl rfl)
theorem dX4_isSign_45 : decode cX4_isSign 45 = .ok (.if_icmp .eq 21, 3) := dk_159 0 21 (dk_at dksX4_isSign_1 21 rfl rfl)
theorem dX4_isSign_48 : decode cX4_isSign 48 = .ok (.iload_n 0, 1) := dk_26 (dk_at dksX4_isSign_2 0 rfl rfl)
theorem dX4_isSign_49 : decode cX4_isSign 49 = .ok (.bipush 42, 2) := dk_16 42 (dk_at dksX4_isSign_2 1 rfl rfl)
theorem dX4_isSign_51 : decode cX4_isSign 51 = .ok (.if_icmp .eq 15, 3) := dk_159 0 15 (dk_at dksX4_isSign_2 3 rfl rfl)
theorem dX4_isSign_54 : decode cX4_isSign 54 = .ok (.iload_n 0, 1) := dk_26 (dk_at dksX4_isSign_2 6 rfl rfl)
theorem dX4_isSign_55 : decode cX4_isSign 55 = .ok (.bipush 47, 2) := dk_16 47 (dk_at dksX4_isSign_2 7 rfl rfl)
theorem dX4_isSign_57 : decode cX4_isSign 57 = .ok (.if_icmp .eq 9, 3) := dk_159 0 9 (dk_at dksX4_isSign_2 9 rfl rfl)
theorem dX4_isSign_60 : decode cX4_isSign 60 = .ok (.iload_n 0, 1) := dk_26 (dk_at dksX4_isSign_2 12 rfl rfl)
theorem dX4_isSign_61 : decode cX4_isSign 61 = .ok (.bipush 37, 2) := dk_16 37 (dk_at dksX4_isSign_2 13 rfl rfl)
theorem dX4_isSign_63 : decode cX4_isSign 63 = .ok (.if_icmp .ne 7, 3) := dk_160 0 7 (dk_at dksX4_isSign_2 15 rfl rfl)
theorem dX4_isSign_66 : decode cX4_isSign 66 = .ok (.iconst 1, 1) := dk_4 (dk_at dksX4_isSign_2 18 rfl rfl)
theorem dX4_isSign_67 : decode cX4_isSign 67 = .ok (.goto 4, 3) := dk_167 0 4 (dk_at dksX4_isSign_2 19 rfl rfl)
theorem dX4_isSign_70 : decode cX4_isSign 70 = .ok (.iconst 0, 1) := dk_3 (dk_at dksX4_isSign_2 22 rfl rfl)
theorem dX4_isSign_71 : decode cX4_isSign 71 = .ok (.ireturn, 1) := dk_172 (dk_at dksX4_isSign_2 23 rfl rfl)
abbrev cX4_readLine : ByteArray := prog_23_method_46_code
def yX4_readLine : MethodName := ⟨RX4, "readLine", "()V"⟩
def dkwX4_readLine_9 : List UInt8 := [42, 180, 0, 224, 154, 0, 7, 42, 182, 1, 31, 177]
abbrev dktX4_readLine_9 : List UInt8 := dkwX4_readLine_9 ++ []
def dkwX4_readLine_8 : List UInt8 := [182, 1, 34, 42, 180, 0, 224, 154, 0, 17, 42, 180, 0, 211, 16, 59, 159, 0, 8, 42, 5, 182, 1, 34]
abbrev dktX4_readLine_8 : List UInt8 := dkwX4_readLine_8 ++ dktX4_readLine_9
def dkwX4_readLine_7 : List UInt8 := [182, 1, 27, 153, 0, 17, 42, 180, 1, 166, 154, 0, 10, 42, 182, 1, 190, 167, 0, 8, 42, 5]
abbrev dktX4_readLine_7 : List UInt8 := dkwX4_readLine_7 ++ dktX4_readLine_8
def dkwX4_readLine_6 : List UInt8 := [182, 1, 27, 153, 0, 17, 42, 180, 1, 159, 154, 0, 10, 42, 182, 1, 187, 167, 0, 32, 42, 20, 1, 15]
abbrev dktX4_readLine_6 : List UInt8 := dkwX4_readLine_6 ++ dktX4_readLine_7
def dkwX4_readLine_5 : List UInt8 := [153, 0, 18, 42, 180, 1, 153, 7, 162, 0, 10, 42, 182, 1, 184, 167, 0, 56, 42, 20, 1, 5]
abbrev dktX4_readLine_5 : List UInt8 := dkwX4_readLine_5 ++ dktX4_readLine_6
def dkwX4_readLine_4 : List UInt8 := [180, 1, 144, 16, 10, 162, 0, 10, 42, 182, 1, 181, 167, 0, 81, 42, 20, 0, 253, 182, 1, 27]
abbrev dktX4_readLine_4 : List UInt8 := dkwX4_readLine_4 ++ dktX4_readLine_5
def dkwX4_readLine_3 : List UInt8 := [16, 6, 162, 0, 10, 42, 182, 1, 178, 167, 0, 107, 42, 20, 0, 243, 182, 1, 27, 153, 0, 19, 42]
abbrev dktX4_readLine_3 : List UInt8 := dkwX4_readLine_3 ++ dktX4_readLine_4
def dkwX4_readLine_2 : List UInt8 := [153, 0, 10, 42, 182, 1, 175, 167, 0, 133, 42, 20, 0, 241, 182, 1, 27, 153, 0, 19, 42, 180, 1, 138]
abbrev dktX4_readLine_2 : List UInt8 := dkwX4_readLine_2 ++ dktX4_readLine_3
def dkwX4_readLine_1 : List UInt8 := [42, 180, 1, 126, 154, 0, 11, 42, 5, 182, 1, 34, 167, 0, 150, 42, 20, 0, 231, 182, 1, 27]
abbrev dktX4_readLine_1 : List UInt8 := dkwX4_readLine_1 ++ dktX4_readLine_2
def dkwX4_readLine_0 : List UInt8 := [42, 20, 0, 227, 182, 1, 27, 153, 0, 17, 42, 180, 1, 126, 154, 0, 10, 42, 182, 1, 172, 167, 0, 165]
abbrev dktX4_readLine_0 : List UInt8 := dkwX4_readLine_0 ++ dktX4_readLine_1
theorem dksX4_readLine_0 : cX4_readLine.data.toList.drop 0 = dktX4_readLine_0 := by decide +kernel
theorem dksX4_readLine_1 : cX4_readLine.data.toList.drop 24 = dktX4_readLine_1 := dk_seg dksX4_readLine_0 24 rfl rfl
theorem dksX4_readLine_2 : cX4_readLine.data.toList.drop 46 = dktX4_readLine_2 := dk_seg dksX4_readLine_1 22 rfl rfl
theorem dksX4_readLine_3 : cX4_readLine.data.toList.drop 70 = dktX4_readLine_3 := dk_seg dksX4_readLine_2 24 rfl rfl
theorem dksX4_readLine_4 : cX4_readLine.data.toList.drop 93 = dktX4_readLine_4 := dk_seg dksX4_readLine_3 23 rfl rfl
theorem dksX4_readLine_5 : cX4_readLine.data.toList.drop 115 = dktX4_readLine_5 := dk_seg dksX4_readLine_4 22 rfl rfl
theorem dksX4_readLine_6 : cX4_readLine.data.toList.drop 137 = dktX4_readLine_6 := dk_seg dksX4_readLine_5 22 rfl rfl
theorem dksX4_readLine_7 : cX4_readLine.data.toList.drop 161 = dktX4_readLine_7 := dk_seg dksX4_readLine_6 24 rfl rfl
theorem dksX4_readLine_8 : cX4_readLine.data.toList.drop 183 = dktX4_readLine_8 := dk_seg dksX4_readLine_7 22 rfl rfl
theorem dksX4_readLine_9 : cX4_readLine.data.toList.drop 207 = dktX4_readLine_9 := dk_seg dksX4_readLine_8 24 rfl rfl
theorem dX4_readLine_0 : decode cX4_readLine 0 = .ok (.aload_n 0, 1) := dk_42 (dk_at dksX4_readLine_0 0 rfl rfl)
theorem dX4_readLine_1 : decode cX4_readLine 1 = .ok (.ldc2_w 227, 3) := dk_20 0 227 (dk_at dksX4_readLine_0 1 rfl rfl)
theorem dX4_readLine_4 : decode cX4_readLine 4 = .ok (.invokevirtual 283, 3) := dk_182 1 27 (dk_at dksX4_readLine_0 4 rfl rfl)
theorem dX4_readLine_7 : decode cX4_readLine 7 = .ok (.ifCond .eq 17, 3) := dk_153 0 17 (dk_at dksX4_readLine_0 7 rfl rfl)
theorem dX4_readLine_10 : decode cX4_readLine 10 = .ok (.aload_n 0, 1) := dk_42 (dk_at dksX4_readLine_0 10 rfl rfl)
theorem dX4_readLine_11 : decode cX4_readLine 11 = .ok (.getfield 382, 3) := dk_180 1 126 (dk_at dksX4_readLine_0 11 rfl rfl)
theorem dX4_readLine_14 : decode cX4_readLine 14 = .ok (.ifCond .ne 10, 3) := dk_154 0 10 (dk_at dksX4_readLine_0 14 rfl rfl)
theorem dX4_readLine_17 : decode cX4_readLine 17 = .ok (.aload_n 0, 1) := dk_42 (dk_at dksX4_readLine_0 17 rfl rfl)
theorem dX4_readLine_18 : decode cX4_readLine 18 = .ok (.invokevirtual 428, 3) := dk_182 1 172 (dk_at dksX4_readLine_0 18 rfl rfl)
theorem dX4_readLine_21 : decode cX4_readLine 21 = .ok (.goto 165, 3) := dk_167 0 165 (dk_at dksX4_readLine_0 21 rfl rfl)
theorem dX4_readLine_24 : decode cX4_readLine 24 = .ok (.aload_n 0, 1) := dk_42 (dk_at dksX4_readLine_1 0 rfl rfl)
theorem dX4_readLine_25 : decode cX4_readLine 25 = .ok (.getfield 382, 3) := dk_180 1 126 (dk_at dksX4_readLine_1 1 rfl rfl)
theorem dX4_readLine_28 : decode cX4_readLine 28 = .ok (.ifCond .ne 11, 3) := dk_154 0 11 (dk_at dksX4_readLine_1 4 rfl rfl)
theorem dX4_readLine_31 : decode cX4_readLine 31 = .ok (.aload_n 0, 1) := dk_42 (dk_at dksX4_readLine_1 7 rfl rfl)
theorem dX4_readLine_32 : decode cX4_readLine 32 = .ok (.iconst 2, 1) := dk_5 (dk_at dksX4_readLine_1 8 rfl rfl)
theorem dX4_readLine_33 : decode cX4_readLine 33 = .ok (.invokevirtual 290, 3) := dk_182 1 34 (dk_at dksX4_readLine_1 9 rfl rfl)
theorem dX4_readLine_36 : decode cX4_readLine 36 = .ok (.goto 150, 3) := dk_167 0 150 (dk_at dksX4_readLine_1 12 rfl rfl)
theorem dX4_readLine_39 : decode cX4_readLine 39 = .ok (.aload_n 0, 1) := dk_42 (dk_at dksX4_readLine_1 15 rfl rfl)
theorem dX4_readLine_40 : decode cX4_readLine 40 = .ok (.ldc2_w 231, 3) := dk_20 0 231 (dk_at dksX4_readLine_1 16 rfl rfl)
theorem dX4_readLine_43 : decode cX4_readLine 43 = .ok (.invokevirtual 283, 3) := dk_182 1 27 (dk_at dksX4_readLine_1 19 rfl rfl)
theorem dX4_readLine_46 : decode cX4_readLine 46 = .ok (.ifCond .eq 10, 3) := dk_153 0 10 (dk_at dksX4_readLine_2 0 rfl rfl)
theorem dX4_readLine_49 : decode cX4_readLine 49 = .ok (.aload_n 0, 1) := dk_42 (dk_at dksX4_readLine_2 3 rfl rfl)
theorem dX4_readLine_50 : decode cX4_readLine 50 = .ok (.invokevirtual 431, 3) := dk_182 1 175 (dk_at dksX4_readLine_2 4 rfl rfl)
theorem dX4_readLine_53 : decode cX4_readLine 53 = .ok (.goto 133, 3) := dk_167 0 133 (dk_at dksX4_readLine_2 7 rfl rfl)
theorem dX4_readLine_56 : decode cX4_readLine 56 = .ok (.aload_n 0, 1) := dk_42 (dk_at dksX4_readLine_2 10 rfl rfl)
theorem dX4_readLine_57 : decode cX4_readLine 57 = .ok (.ldc2_w 241, 3) := dk_20 0 241 (dk_at dksX4_readLine_2 11 rfl rfl)
theorem dX4_readLine_60 : decode cX4_readLine 60 = .ok (.invokevirtual 283, 3) := dk_182 1 27 (dk_at dksX4_readLine_2 14 rfl rfl)
theorem dX4_readLine_63 : decode cX4_readLine 63 = .ok (.ifCond .eq 19, 3) := dk_153 0 19 (dk_at dksX4_readLine_2 17 rfl rfl)
theorem dX4_readLine_66 : decode cX4_readLine 66 = .ok (.aload_n 0, 1) := dk_42 (dk_at dksX4_readLine_2 20 rfl rfl)
theorem dX4_readLine_67 : decode cX4_readLine 67 = .ok (.getfield 394, 3) := dk_180 1 138 (dk_at dksX4_readLine_2 21 rfl rfl)
theorem dX4_readLine_70 : decode cX4_readLine 70 = .ok (.bipush 6, 2) := dk_16 6 (dk_at dksX4_readLine_3 0 rfl rfl)
theorem dX4_readLine_72 : decode cX4_readLine 72 = .ok (.if_icmp .ge 10, 3) := dk_162 0 10 (dk_at dksX4_readLine_3 2 rfl rfl)
theorem dX4_readLine_75 : decode cX4_readLine 75 = .ok (.aload_n 0, 1) := dk_42 (dk_at dksX4_readLine_3 5 rfl rfl)
theorem dX4_readLine_76 : decode cX4_readLine 76 = .ok (.invokevirtual 434, 3) := dk_182 1 178 (dk_at dksX4_readLine_3 6 rfl rfl)
theorem dX4_readLine_79 : decode cX4_readLine 79 = .ok (.goto 107, 3) := dk_167 0 107 (dk_at dksX4_readLine_3 9 rfl rfl)
theorem dX4_readLine_82 : decode cX4_readLine 82 = .ok (.aload_n 0, 1) := dk_42 (dk_at dksX4_readLine_3 12 rfl rfl)
theorem dX4_readLine_83 : decode cX4_readLine 83 = .ok (.ldc2_w 243, 3) := dk_20 0 243 (dk_at dksX4_readLine_3 13 rfl rfl)
theorem dX4_readLine_86 : decode cX4_readLine 86 = .ok (.invokevirtual 283, 3) := dk_182 1 27 (dk_at dksX4_readLine_3 16 rfl rfl)
theorem dX4_readLine_89 : decode cX4_readLine 89 = .ok (.ifCond .eq 19, 3) := dk_153 0 19 (dk_at dksX4_readLine_3 19 rfl rfl)
theorem dX4_readLine_92 : decode cX4_readLine 92 = .ok (.aload_n 0, 1) := dk_42 (dk_at dksX4_readLine_3 22 rfl rfl)
theorem dX4_readLine_93 : decode cX4_readLine 93 = .ok (.getfield 400, 3) := dk_180 1 144 (dk_at dksX4_readLine_4 0 rfl rfl)
theorem dX4_readLine_96 : decode cX4_readLine 96 = .ok (.bipush 10, 2) := dk_16 10 (dk_at dksX4_readLine_4 3 rfl rfl)
theorem dX4_readLine_98 : decode cX4_readLine 98 = .ok (.if_icmp .ge 10, 3) := dk_162 0 10 (dk_at dksX4_readLine_4 5 rfl rfl)
theorem dX4_readLine_101 : decode cX4_readLine 101 = .ok (.aload_n 0, 1) := dk_42 (dk_at dksX4_readLine_4 8 rfl rfl)
theorem dX4_readLine_102 : decode cX4_readLine 102 = .ok (.invokevirtual 437, 3) := dk_182 1 181 (dk_at dksX4_readLine_4 9 rfl rfl)
theorem dX4_readLine_105 : decode cX4_readLine 105 = .ok (.goto 81, 3) := dk_167 0 81 (dk_at dksX4_readLine_4 12 rfl rfl)
theorem dX4_readLine_108 : decode cX4_readLine 108 = .ok (.aload_n 0, 1) := dk_42 (dk_at dksX4_readLine_4 15 rfl rfl)
theorem dX4_readLine_109 : decode cX4_readLine 109 = .ok (.ldc2_w 253, 3) := dk_20 0 253 (dk_at dksX4_readLine_4 16 rfl rfl)
theorem dX4_readLine_112 : decode cX4_readLine 112 = .ok (.invokevirtual 283, 3) := dk_182 1 27 (dk_at dksX4_readLine_4 19 rfl rfl)
theorem dX4_readLine_115 : decode cX4_readLine 115 = .ok (.ifCond .eq 18, 3) := dk_153 0 18 (dk_at dksX4_readLine_5 0 rfl rfl)
theorem dX4_readLine_118 : decode cX4_readLine 118 = .ok (.aload_n 0, 1) := dk_42 (dk_at dksX4_readLine_5 3 rfl rfl)
theorem dX4_readLine_119 : decode cX4_readLine 119 = .ok (.getfield 409, 3) := dk_180 1 153 (dk_at dksX4_readLine_5 4 rfl rfl)
theorem dX4_readLine_122 : decode cX4_readLine 122 = .ok (.iconst 4, 1) := dk_7 (dk_at dksX4_readLine_5 7 rfl rfl)
theorem dX4_readLine_123 : decode cX4_readLine 123 = .ok (.if_icmp .ge 10, 3) := dk_162 0 10 (dk_at dksX4_readLine_5 8 rfl rfl)
theorem dX4_readLine_126 : decode cX4_readLine 126 = .ok (.aload_n 0, 1) := dk_42 (dk_at dksX4_readLine_5 11 rfl rfl)
theorem dX4_readLine_127 : decode cX4_readLine 127 = .ok (.invokevirtual 440, 3) := dk_182 1 184 (dk_at dksX4_readLine_5 12 rfl rfl)
theorem dX4_readLine_130 : decode cX4_readLine 130 = .ok (.goto 56, 3) := dk_167 0 56 (dk_at dksX4_readLine_5 15 rfl rfl)
theorem dX4_readLine_133 : decode cX4_readLine 133 = .ok (.aload_n 0, 1) := dk_42 (dk_at dksX4_readLine_5 18 rfl rfl)
theorem dX4_readLine_134 : decode cX4_readLine 134 = .ok (.ldc2_w 261, 3) := dk_20 1 5 (dk_at dksX4_readLine_5 19 rfl rfl)
theorem dX4_readLine_137 : decode cX4_readLine 137 = .ok (.invokevirtual 283, 3) := dk_182 1 27 (dk_at dksX4_readLine_6 0 rfl rfl)
theorem dX4_readLine_140 : decode cX4_readLine 140 = .ok (.ifCond .eq 17, 3) := dk_153 0 17 (dk_at dksX4_readLine_6 3 rfl rfl)
theorem dX4_readLine_143 : decode cX4_readLine 143 = .ok (.aload_n 0, 1) := dk_42 (dk_at dksX4_readLine_6 6 rfl rfl)
theorem dX4_readLine_144 : decode cX4_readLine 144 = .ok (.getfield 415, 3) := dk_180 1 159 (dk_at dksX4_readLine_6 7 rfl rfl)
theorem dX4_readLine_147 : decode cX4_readLine 147 = .ok (.ifCond .ne 10, 3) := dk_154 0 10 (dk_at dksX4_readLine_6 10 rfl rfl)
theorem dX4_readLine_150 : decode cX4_readLine 150 = .ok (.aload_n 0, 1) := dk_42 (dk_at dksX4_readLine_6 13 rfl rfl)
theorem dX4_readLine_151 : decode cX4_readLine 151 = .ok (.invokevirtual 443, 3) := dk_182 1 187 (dk_at dksX4_readLine_6 14 rfl rfl)
theorem dX4_readLine_154 : decode cX4_readLine 154 = .ok (.goto 32, 3) := dk_167 0 32 (dk_at dksX4_readLine_6 17 rfl rfl)
theorem dX4_readLine_157 : decode cX4_readLine 157 = .ok (.aload_n 0, 1) := dk_42 (dk_at dksX4_readLine_6 20 rfl rfl)
theorem dX4_readLine_158 : decode cX4_readLine 158 = .ok (.ldc2_w 271, 3) := dk_20 1 15 (dk_at dksX4_readLine_6 21 rfl rfl)
theorem dX4_readLine_161 : decode cX4_readLine 161 = .ok (.invokevirtual 283, 3) := dk_182 1 27 (dk_at dksX4_readLine_7 0 rfl rfl)
theorem dX4_readLine_164 : decode cX4_readLine 164 = .ok (.ifCond .eq 17, 3) := dk_153 0 17 (dk_at dksX4_readLine_7 3 rfl rfl)
theorem dX4_readLine_167 : decode cX4_readLine 167 = .ok (.aload_n 0, 1) := dk_42 (dk_at dksX4_readLine_7 6 rfl rfl)
theorem dX4_readLine_168 : decode cX4_readLine 168 = .ok (.getfield 422, 3) := dk_180 1 166 (dk_at dksX4_readLine_7 7 rfl rfl)
theorem dX4_readLine_171 : decode cX4_readLine 171 = .ok (.ifCond .ne 10, 3) := dk_154 0 10 (dk_at dksX4_readLine_7 10 rfl rfl)
theorem dX4_readLine_174 : decode cX4_readLine 174 = .ok (.aload_n 0, 1) := dk_42 (dk_at dksX4_readLine_7 13 rfl rfl)
theorem dX4_readLine_175 : decode cX4_readLine 175 = .ok (.invokevirtual 446, 3) := dk_182 1 190 (dk_at dksX4_readLine_7 14 rfl rfl)
theorem dX4_readLine_178 : decode cX4_readLine 178 = .ok (.goto 8, 3) := dk_167 0 8 (dk_at dksX4_readLine_7 17 rfl rfl)
theorem dX4_readLine_181 : decode cX4_readLine 181 = .ok (.aload_n 0, 1) := dk_42 (dk_at dksX4_readLine_7 20 rfl rfl)
theorem dX4_readLine_182 : decode cX4_readLine 182 = .ok (.iconst 2, 1) := dk_5 (dk_at dksX4_readLine_7 21 rfl rfl)
theorem dX4_readLine_183 : decode cX4_readLine 183 = .ok (.invokevirtual 290, 3) := dk_182 1 34 (dk_at dksX4_readLine_8 0 rfl rfl)
theorem dX4_readLine_186 : decode cX4_readLine 186 = .ok (.aload_n 0, 1) := dk_42 (dk_at dksX4_readLine_8 3 rfl rfl)
theorem dX4_readLine_187 : decode cX4_readLine 187 = .ok (.getfield 224, 3) := dk_180 0 224 (dk_at dksX4_readLine_8 4 rfl rfl)
theorem dX4_readLine_190 : decode cX4_readLine 190 = .ok (.ifCond .ne 17, 3) := dk_154 0 17 (dk_at dksX4_readLine_8 7 rfl rfl)
theorem dX4_readLine_193 : decode cX4_readLine 193 = .ok (.aload_n 0, 1) := dk_42 (dk_at dksX4_readLine_8 10 rfl rfl)
theorem dX4_readLine_194 : decode cX4_readLine 194 = .ok (.getfield 211, 3) := dk_180 0 211 (dk_at dksX4_readLine_8 11 rfl rfl)
theorem dX4_readLine_197 : decode cX4_readLine 197 = .ok (.bipush 59, 2) := dk_16 59 (dk_at dksX4_readLine_8 14 rfl rfl)
theorem dX4_readLine_199 : decode cX4_readLine 199 = .ok (.if_icmp .eq 8, 3) := dk_159 0 8 (dk_at dksX4_readLine_8 16 rfl rfl)
theorem dX4_readLine_202 : decode cX4_readLine 202 = .ok (.aload_n 0, 1) := dk_42 (dk_at dksX4_readLine_8 19 rfl rfl)
theorem dX4_readLine_203 : decode cX4_readLine 203 = .ok (.iconst 2, 1) := dk_5 (dk_at dksX4_readLine_8 20 rfl rfl)
theorem dX4_readLine_204 : decode cX4_readLine 204 = .ok (.invokevirtual 290, 3) := dk_182 1 34 (dk_at dksX4_readLine_8 21 rfl rfl)
theorem dX4_readLine_207 : decode cX4_readLine 207 = .ok (.aload_n 0, 1) := dk_42 (dk_at dksX4_readLine_9 0 rfl rfl)
theorem dX4_readLine_208 : decode cX4_readLine 208 = .ok (.getfield 224, 3) := dk_180 0 224 (dk_at dksX4_readLine_9 1 rfl rfl)
theorem dX4_readLine_211 : decode cX4_readLine 211 = .ok (.ifCond .ne 7, 3) := dk_154 0 7 (dk_at dksX4_readLine_9 4 rfl rfl)
theorem dX4_readLine_214 : decode cX4_readLine 214 = .ok (.aload_n 0, 1) := dk_42 (dk_at dksX4_readLine_9 7 rfl rfl)
theorem dX4_readLine_215 : decode cX4_readLine 215 = .ok (.invokevirtual 287, 3) := dk_182 1 31 (dk_at dksX4_readLine_9 8 rfl rfl)
theorem dX4_readLine_218 : decode cX4_readLine 218 = .ok (.return_, 1) := dk_177 (dk_at dksX4_readLine_9 11 rfl rfl)
abbrev cX4_isWord : ByteArray := prog_23_method_12_code
def yX4_isWord : MethodName := ⟨RX4, "isWord", "(J)Z"⟩
def dkwX4_isWord_0 : List UInt8 := [42, 180, 0, 211, 4, 160, 0, 16, 42, 180, 0, 204, 31, 148, 154, 0, 7, 4, 167, 0, 4, 3, 172]
abbrev dktX4_isWord_0 : List UInt8 := dkwX4_isWord_0 ++ []
theorem dksX4_isWord_0 : cX4_isWord.data.toList.drop 0 = dktX4_isWord_0 := by decide +kernel
theorem dX4_isWord_0 : decode cX4_isWord 0 = .ok (.aload_n 0, 1) := dk_42 (dk_at dksX4_isWord_0 0 rfl rfl)
theorem dX4_isWord_1 : decode cX4_isWord 1 = .ok (.getfield 211, 3) := dk_180 0 211 (dk_at dksX4_isWord_0 1 rfl rfl)
theorem dX4_isWord_4 : decode cX4_isWord 4 = .ok (.iconst 1, 1) := dk_4 (dk_at dksX4_isWord_0 4 rfl rfl)
theorem dX4_isWord_5 : decode cX4_isWord 5 = .ok (.if_icmp .ne 16, 3) := dk_160 0 16 (dk_at dksX4_isWord_0 5 rfl rfl)
theorem dX4_isWord_8 : decode cX4_isWord 8 = .ok (.aload_n 0, 1) := dk_42 (dk_at dksX4_isWord_0 8 rfl rfl)
theorem dX4_isWord_9 : decode cX4_isWord 9 = .ok (.getfield 204, 3) := dk_180 0 204 (dk_at dksX4_isWord_0 9 rfl rfl)
theorem dX4_isWord_12 : decode cX4_isWord 12 = .ok (.lload_n 1, 1) := dk_31 (dk_at dksX4_isWord_0 12 rfl rfl)
theorem dX4_isWord_13 : decode cX4_isWord 13 = .ok (.lcmp, 1) := dk_148 (dk_at dksX4_isWord_0 13 rfl rfl)
theorem dX4_isWord_14 : decode cX4_isWord 14 = .ok (.ifCond .ne 7, 3) := dk_154 0 7 (dk_at dksX4_isWord_0 14 rfl rfl)
theorem dX4_isWord_17 : decode cX4_isWord 17 = .ok (.iconst 1, 1) := dk_4 (dk_at dksX4_isWord_0 17 rfl rfl)
theorem dX4_isWord_18 : decode cX4_isWord 18 = .ok (.goto 4, 3) := dk_167 0 4 (dk_at dksX4_isWord_0 18 rfl rfl)
theorem dX4_isWord_21 : decode cX4_isWord 21 = .ok (.iconst 0, 1) := dk_3 (dk_at dksX4_isWord_0 21 rfl rfl)
theorem dX4_isWord_22 : decode cX4_isWord 22 = .ok (.ireturn, 1) := dk_172 (dk_at dksX4_isWord_0 22 rfl rfl)
abbrev cX4_readTub : ByteArray := prog_23_method_38_code
def yX4_readTub : MethodName := ⟨RX4, "readTub", "()V"⟩
def dkwX4_readTub_1 : List UInt8 := [182, 1, 122, 181, 1, 129, 177]
abbrev dktX4_readTub_1 : List UInt8 := dkwX4_readTub_1 ++ []
def dkwX4_readTub_0 : List UInt8 := [42, 42, 20, 0, 227, 4, 16, 6, 182, 1, 122, 181, 1, 126, 42, 42, 20, 0, 229, 4, 16, 6]
abbrev dktX4_readTub_0 : List UInt8 := dkwX4_readTub_0 ++ dktX4_readTub_1
theorem dksX4_readTub_0 : cX4_readTub.data.toList.drop 0 = dktX4_readTub_0 := by decide +kernel
theorem dksX4_readTub_1 : cX4_readTub.data.toList.drop 22 = dktX4_readTub_1 := dk_seg dksX4_readTub_0 22 rfl rfl
theorem dX4_readTub_0 : decode cX4_readTub 0 = .ok (.aload_n 0, 1) := dk_42 (dk_at dksX4_readTub_0 0 rfl rfl)
theorem dX4_readTub_1 : decode cX4_readTub 1 = .ok (.aload_n 0, 1) := dk_42 (dk_at dksX4_readTub_0 1 rfl rfl)
theorem dX4_readTub_2 : decode cX4_readTub 2 = .ok (.ldc2_w 227, 3) := dk_20 0 227 (dk_at dksX4_readTub_0 2 rfl rfl)
theorem dX4_readTub_5 : decode cX4_readTub 5 = .ok (.iconst 1, 1) := dk_4 (dk_at dksX4_readTub_0 5 rfl rfl)
theorem dX4_readTub_6 : decode cX4_readTub 6 = .ok (.bipush 6, 2) := dk_16 6 (dk_at dksX4_readTub_0 6 rfl rfl)
theorem dX4_readTub_8 : decode cX4_readTub 8 = .ok (.invokevirtual 378, 3) := dk_182 1 122 (dk_at dksX4_readTub_0 8 rfl rfl)
theorem dX4_readTub_11 : decode cX4_readTub 11 = .ok (.putfield 382, 3) := dk_181 1 126 (dk_at dksX4_readTub_0 11 rfl rfl)
theorem dX4_readTub_14 : decode cX4_readTub 14 = .ok (.aload_n 0, 1) := dk_42 (dk_at dksX4_readTub_0 14 rfl rfl)
theorem dX4_readTub_15 : decode cX4_readTub 15 = .ok (.aload_n 0, 1) := dk_42 (dk_at dksX4_readTub_0 15 rfl rfl)
theorem dX4_readTub_16 : decode cX4_readTub 16 = .ok (.ldc2_w 229, 3) := dk_20 0 229 (dk_at dksX4_readTub_0 16 rfl rfl)
theorem dX4_readTub_19 : decode cX4_readTub 19 = .ok (.iconst 1, 1) := dk_4 (dk_at dksX4_readTub_0 19 rfl rfl)
theorem dX4_readTub_20 : decode cX4_readTub 20 = .ok (.bipush 6, 2) := dk_16 6 (dk_at dksX4_readTub_0 20 rfl rfl)
theorem dX4_readTub_22 : decode cX4_readTub 22 = .ok (.invokevirtual 378, 3) := dk_182 1 122 (dk_at dksX4_readTub_1 0 rfl rfl)
theorem dX4_readTub_25 : decode cX4_readTub 25 = .ok (.putfield 385, 3) := dk_181 1 129 (dk_at dksX4_readTub_1 3 rfl rfl)
theorem dX4_readTub_28 : decode cX4_readTub 28 = .ok (.return_, 1) := dk_177 (dk_at dksX4_readTub_1 6 rfl rfl)
abbrev cX4_told : ByteArray := prog_23_method_18_code
def yX4_told : MethodName := ⟨RX4, "told", "(JII)I"⟩
def dkwX4_told_0 : List UInt8 := [42, 31, 182, 1, 37, 42, 29, 21, 4, 182, 1, 41, 172]
abbrev dktX4_told_0 : List UInt8 := dkwX4_told_0 ++ []
theorem dksX4_told_0 : cX4_told.data.toList.drop 0 = dktX4_told_0 := by decide +kernel
theorem dX4_told_0 : decode cX4_told 0 = .ok (.aload_n 0, 1) := dk_42 (dk_at dksX4_told_0 0 rfl rfl)
theorem dX4_told_1 : decode cX4_told 1 = .ok (.lload_n 1, 1) := dk_31 (dk_at dksX4_told_0 1 rfl rfl)
theorem dX4_told_2 : decode cX4_told 2 = .ok (.invokevirtual 293, 3) := dk_182 1 37 (dk_at dksX4_told_0 2 rfl rfl)
theorem dX4_told_5 : decode cX4_told 5 = .ok (.aload_n 0, 1) := dk_42 (dk_at dksX4_told_0 5 rfl rfl)
theorem dX4_told_6 : decode cX4_told 6 = .ok (.iload_n 3, 1) := dk_29 (dk_at dksX4_told_0 6 rfl rfl)
theorem dX4_told_7 : decode cX4_told 7 = .ok (.iload 4, 2) := dk_21 4 (dk_at dksX4_told_0 7 rfl rfl)
theorem dX4_told_9 : decode cX4_told 9 = .ok (.invokevirtual 297, 3) := dk_182 1 41 (dk_at dksX4_told_0 9 rfl rfl)
theorem dX4_told_12 : decode cX4_told 12 = .ok (.ireturn, 1) := dk_172 (dk_at dksX4_told_0 12 rfl rfl)
abbrev cX4_want : ByteArray := prog_23_method_16_code
def yX4_want : MethodName := ⟨RX4, "want", "(J)V"⟩
def dkwX4_want_1 : List UInt8 := [42, 182, 1, 31, 177]
abbrev dktX4_want_1 : List UInt8 := dkwX4_want_1 ++ []
def dkwX4_want_0 : List UInt8 := [42, 180, 0, 224, 158, 0, 4, 177, 42, 31, 182, 1, 27, 154, 0, 11, 42, 5, 182, 1, 34, 167, 0, 7]
abbrev dktX4_want_0 : List UInt8 := dkwX4_want_0 ++ dktX4_want_1
theorem dksX4_want_0 : cX4_want.data.toList.drop 0 = dktX4_want_0 := by decide +kernel
theorem dksX4_want_1 : cX4_want.data.toList.drop 24 = dktX4_want_1 := dk_seg dksX4_want_0 24 rfl rfl
theorem dX4_want_0 : decode cX4_want 0 = .ok (.aload_n 0, 1) := dk_42 (dk_at dksX4_want_0 0 rfl rfl)
theorem dX4_want_1 : decode cX4_want 1 = .ok (.getfield 224, 3) := dk_180 0 224 (dk_at dksX4_want_0 1 rfl rfl)
theorem dX4_want_4 : decode cX4_want 4 = .ok (.ifCond .le 4, 3) := dk_158 0 4 (dk_at dksX4_want_0 4 rfl rfl)
theorem dX4_want_7 : decode cX4_want 7 = .ok (.return_, 1) := dk_177 (dk_at dksX4_want_0 7 rfl rfl)
theorem dX4_want_8 : decode cX4_want 8 = .ok (.aload_n 0, 1) := dk_42 (dk_at dksX4_want_0 8 rfl rfl)
theorem dX4_want_9 : decode cX4_want 9 = .ok (.lload_n 1, 1) := dk_31 (dk_at dksX4_want_0 9 rfl rfl)
theorem dX4_want_10 : decode cX4_want 10 = .ok (.invokevirtual 283, 3) := dk_182 1 27 (dk_at dksX4_want_0 10 rfl rfl)
theorem dX4_want_13 : decode cX4_want 13 = .ok (.ifCond .ne 11, 3) := dk_154 0 11 (dk_at dksX4_want_0 13 rfl rfl)
theorem dX4_want_16 : decode cX4_want 16 = .ok (.aload_n 0, 1) := dk_42 (dk_at dksX4_want_0 16 rfl rfl)
theorem dX4_want_17 : decode cX4_want 17 = .ok (.iconst 2, 1) := dk_5 (dk_at dksX4_want_0 17 rfl rfl)
theorem dX4_want_18 : decode cX4_want 18 = .ok (.invokevirtual 290, 3) := dk_182 1 34 (dk_at dksX4_want_0 18 rfl rfl)
theorem dX4_want_21 : decode cX4_want 21 = .ok (.goto 7, 3) := dk_167 0 7 (dk_at dksX4_want_0 21 rfl rfl)
theorem dX4_want_24 : decode cX4_want 24 = .ok (.aload_n 0, 1) := dk_42 (dk_at dksX4_want_1 0 rfl rfl)
theorem dX4_want_25 : decode cX4_want 25 = .ok (.invokevirtual 287, 3) := dk_182 1 31 (dk_at dksX4_want_1 1 rfl rfl)
theorem dX4_want_28 : decode cX4_want 28 = .ok (.return_, 1) := dk_177 (dk_at dksX4_want_1 4 rfl rfl)
abbrev cX4_wrong : ByteArray := prog_23_method_10_code
def yX4_wrong : MethodName := ⟨RX4, "wrong", "(I)V"⟩
def dkwX4_wrong_1 : List UInt8 := [181, 0, 224, 42, 42, 180, 0, 201, 181, 0, 13, 177]
abbrev dktX4_wrong_1 : List UInt8 := dkwX4_wrong_1 ++ []
def dkwX4_wrong_0 : List UInt8 := [42, 180, 0, 224, 158, 0, 4, 177, 42, 42, 180, 0, 211, 6, 160, 0, 7, 4, 167, 0, 4, 27]
abbrev dktX4_wrong_0 : List UInt8 := dkwX4_wrong_0 ++ dktX4_wrong_1
theorem dksX4_wrong_0 : cX4_wrong.data.toList.drop 0 = dktX4_wrong_0 := by decide +kernel
theorem dksX4_wrong_1 : cX4_wrong.data.toList.drop 22 = dktX4_wrong_1 := dk_seg dksX4_wrong_0 22 rfl rfl
theorem dX4_wrong_0 : decode cX4_wrong 0 = .ok (.aload_n 0, 1) := dk_42 (dk_at dksX4_wrong_0 0 rfl rfl)
theorem dX4_wrong_1 : decode cX4_wrong 1 = .ok (.getfield 224, 3) := dk_180 0 224 (dk_at dksX4_wrong_0 1 rfl rfl)
theorem dX4_wrong_4 : decode cX4_wrong 4 = .ok (.ifCond .le 4, 3) := dk_158 0 4 (dk_at dksX4_wrong_0 4 rfl rfl)
theorem dX4_wrong_7 : decode cX4_wrong 7 = .ok (.return_, 1) := dk_177 (dk_at dksX4_wrong_0 7 rfl rfl)
theorem dX4_wrong_8 : decode cX4_wrong 8 = .ok (.aload_n 0, 1) := dk_42 (dk_at dksX4_wrong_0 8 rfl rfl)
theorem dX4_wrong_9 : decode cX4_wrong 9 = .ok (.aload_n 0, 1) := dk_42 (dk_at dksX4_wrong_0 9 rfl rfl)
theorem dX4_wrong_10 : decode cX4_wrong 10 = .ok (.getfield 211, 3) := dk_180 0 211 (dk_at dksX4_wrong_0 10 rfl rfl)
theorem dX4_wrong_13 : decode cX4_wrong 13 = .ok (.iconst 3, 1) := dk_6 (dk_at dksX4_wrong_0 13 rfl rfl)
theorem dX4_wrong_14 : decode cX4_wrong 14 = .ok (.if_icmp .ne 7, 3) := dk_160 0 7 (dk_at dksX4_wrong_0 14 rfl rfl)
theorem dX4_wrong_17 : decode cX4_wrong 17 = .ok (.iconst 1, 1) := dk_4 (dk_at dksX4_wrong_0 17 rfl rfl)
theorem dX4_wrong_18 : decode cX4_wrong 18 = .ok (.goto 4, 3) := dk_167 0 4 (dk_at dksX4_wrong_0 18 rfl rfl)
theorem dX4_wrong_21 : decode cX4_wrong 21 = .ok (.iload_n 1, 1) := dk_27 (dk_at dksX4_wrong_0 21 rfl rfl)
theorem dX4_wrong_22 : decode cX4_wrong 22 = .ok (.putfield 224, 3) := dk_181 0 224 (dk_at dksX4_wrong_1 0 rfl rfl)
theorem dX4_wrong_25 : decode cX4_wrong 25 = .ok (.aload_n 0, 1) := dk_42 (dk_at dksX4_wrong_1 3 rfl rfl)
theorem dX4_wrong_26 : decode cX4_wrong 26 = .ok (.aload_n 0, 1) := dk_42 (dk_at dksX4_wrong_1 4 rfl rfl)
theorem dX4_wrong_27 : decode cX4_wrong 27 = .ok (.getfield 201, 3) := dk_180 0 201 (dk_at dksX4_wrong_1 5 rfl rfl)
theorem dX4_wrong_30 : decode cX4_wrong 30 = .ok (.putfield 13, 3) := dk_181 0 13 (dk_at dksX4_wrong_1 8 rfl rfl)
theorem dX4_wrong_33 : decode cX4_wrong 33 = .ok (.return_, 1) := dk_177 (dk_at dksX4_wrong_1 11 rfl rfl)
abbrev cX4_toldNumber : ByteArray := prog_23_method_17_code
def yX4_toldNumber : MethodName := ⟨RX4, "toldNumber", "(II)I"⟩
def dkwX4_toldNumber_2 : List UInt8 := [42, 180, 0, 208, 62, 42, 180, 0, 224, 154, 0, 7, 42, 182, 1, 31, 29, 172]
abbrev dktX4_toldNumber_2 : List UInt8 := dkwX4_toldNumber_2 ++ []
def dkwX4_toldNumber_1 : List UInt8 := [167, 0, 24, 42, 180, 0, 208, 27, 161, 0, 11, 42, 180, 0, 208, 28, 164, 0, 8, 42, 7, 182, 1, 34]
abbrev dktX4_toldNumber_1 : List UInt8 := dkwX4_toldNumber_1 ++ dktX4_toldNumber_2
def dkwX4_toldNumber_0 : List UInt8 := [42, 180, 0, 224, 158, 0, 5, 3, 172, 42, 180, 0, 211, 5, 159, 0, 11, 42, 5, 182, 1, 34]
abbrev dktX4_toldNumber_0 : List UInt8 := dkwX4_toldNumber_0 ++ dktX4_toldNumber_1
theorem dksX4_toldNumber_0 : cX4_toldNumber.data.toList.drop 0 = dktX4_toldNumber_0 := by decide +kernel
theorem dksX4_toldNumber_1 : cX4_toldNumber.data.toList.drop 22 = dktX4_toldNumber_1 := dk_seg dksX4_toldNumber_0 22 rfl rfl
theorem dksX4_toldNumber_2 : cX4_toldNumber.data.toList.drop 46 = dktX4_toldNumber_2 := dk_seg dksX4_toldNumber_1 24 rfl rfl
theorem dX4_toldNumber_0 : decode cX4_toldNumber 0 = .ok (.aload_n 0, 1) := dk_42 (dk_at dksX4_toldNumber_0 0 rfl rfl)
theorem dX4_toldNumber_1 : decode cX4_toldNumber 1 = .ok (.getfield 224, 3) := dk_180 0 224 (dk_at dksX4_toldNumber_0 1 rfl rfl)
theorem dX4_toldNumber_4 : decode cX4_toldNumber 4 = .ok (.ifCond .le 5, 3) := dk_158 0 5 (dk_at dksX4_toldNumber_0 4 rfl rfl)
theorem dX4_toldNumber_7 : decode cX4_toldNumber 7 = .ok (.iconst 0, 1) := dk_3 (dk_at dksX4_toldNumber_0 7 rfl rfl)
theorem dX4_toldNumber_8 : decode cX4_toldNumber 8 = .ok (.ireturn, 1) := dk_172 (dk_at dksX4_toldNumber_0 8 rfl rfl)
theorem dX4_toldNumber_9 : decode cX4_toldNumber 9 = .ok (.aload_n 0, 1) := dk_42 (dk_at dksX4_toldNumber_0 9 rfl rfl)
theorem dX4_toldNumber_10 : decode cX4_toldNumber 10 = .ok (.getfield 211, 3) := dk_180 0 211 (dk_at dksX4_toldNumber_0 10 rfl rfl)
theorem dX4_toldNumber_13 : decode cX4_toldNumber 13 = .ok (.iconst 2, 1) := dk_5 (dk_at dksX4_toldNumber_0 13 rfl rfl)
theorem dX4_toldNumber_14 : decode cX4_toldNumber 14 = .ok (.if_icmp .eq 11, 3) := dk_159 0 11 (dk_at dksX4_toldNumber_0 14 rfl rfl)
theorem dX4_toldNumber_17 : decode cX4_toldNumber 17 = .ok (.aload_n 0, 1) := dk_42 (dk_at dksX4_toldNumber_0 17 rfl rfl)
theorem dX4_toldNumber_18 : decode cX4_toldNumber 18 = .ok (.iconst 2, 1) := dk_5 (dk_at dksX4_toldNumber_0 18 rfl rfl)
theorem dX4_toldNumber_19 : decode cX4_toldNumber 19 = .ok (.invokevirtual 290, 3) := dk_182 1 34 (dk_at dksX4_toldNumber_0 19 rfl rfl)
theorem dX4_toldNumber_22 : decode cX4_toldNumber 22 = .ok (.goto 24, 3) := dk_167 0 24 (dk_at dksX4_toldNumber_1 0 rfl rfl)
theorem dX4_toldNumber_25 : decode cX4_toldNumber 25 = .ok (.aload_n 0, 1) := dk_42 (dk_at dksX4_toldNumber_1 3 rfl rfl)
theorem dX4_toldNumber_26 : decode cX4_toldNumber 26 = .ok (.getfield 208, 3) := dk_180 0 208 (dk_at dksX4_toldNumber_1 4 rfl rfl)
theorem dX4_toldNumber_29 : decode cX4_toldNumber 29 = .ok (.iload_n 1, 1) := dk_27 (dk_at dksX4_toldNumber_1 7 rfl rfl)
theorem dX4_toldNumber_30 : decode cX4_toldNumber 30 = .ok (.if_icmp .lt 11, 3) := dk_161 0 11 (dk_at dksX4_toldNumber_1 8 rfl rfl)
theorem dX4_toldNumber_33 : decode cX4_toldNumber 33 = .ok (.aload_n 0, 1) := dk_42 (dk_at dksX4_toldNumber_1 11 rfl rfl)
theorem dX4_toldNumber_34 : decode cX4_toldNumber 34 = .ok (.getfield 208, 3) := dk_180 0 208 (dk_at dksX4_toldNumber_1 12 rfl rfl)
theorem dX4_toldNumber_37 : decode cX4_toldNumber 37 = .ok (.iload_n 2, 1) := dk_28 (dk_at dksX4_toldNumber_1 15 rfl rfl)
theorem dX4_toldNumber_38 : decode cX4_toldNumber 38 = .ok (.if_icmp .le 8, 3) := dk_164 0 8 (dk_at dksX4_toldNumber_1 16 rfl rfl)
theorem dX4_toldNumber_41 : decode cX4_toldNumber 41 = .ok (.aload_n 0, 1) := dk_42 (dk_at dksX4_toldNumber_1 19 rfl rfl)
theorem dX4_toldNumber_42 : decode cX4_toldNumber 42 = .ok (.iconst 4, 1) := dk_7 (dk_at dksX4_toldNumber_1 20 rfl rfl)
theorem dX4_toldNumber_43 : decode cX4_toldNumber 43 = .ok (.invokevirtual 290, 3) := dk_182 1 34 (dk_at dksX4_toldNumber_1 21 rfl rfl)
theorem dX4_toldNumber_46 : decode cX4_toldNumber 46 = .ok (.aload_n 0, 1) := dk_42 (dk_at dksX4_toldNumber_2 0 rfl rfl)
theorem dX4_toldNumber_47 : decode cX4_toldNumber 47 = .ok (.getfield 208, 3) := dk_180 0 208 (dk_at dksX4_toldNumber_2 1 rfl rfl)
theorem dX4_toldNumber_50 : decode cX4_toldNumber 50 = .ok (.istore_n 3, 1) := dk_62 (dk_at dksX4_toldNumber_2 4 rfl rfl)
theorem dX4_toldNumber_51 : decode cX4_toldNumber 51 = .ok (.aload_n 0, 1) := dk_42 (dk_at dksX4_toldNumber_2 5 rfl rfl)
theorem dX4_toldNumber_52 : decode cX4_toldNumber 52 = .ok (.getfield 224, 3) := dk_180 0 224 (dk_at dksX4_toldNumber_2 6 rfl rfl)
theorem dX4_toldNumber_55 : decode cX4_toldNumber 55 = .ok (.ifCond .ne 7, 3) := dk_154 0 7 (dk_at dksX4_toldNumber_2 9 rfl rfl)
theorem dX4_toldNumber_58 : decode cX4_toldNumber 58 = .ok (.aload_n 0, 1) := dk_42 (dk_at dksX4_toldNumber_2 12 rfl rfl)
theorem dX4_toldNumber_59 : decode cX4_toldNumber 59 = .ok (.invokevirtual 287, 3) := dk_182 1 31 (dk_at dksX4_toldNumber_2 13 rfl rfl)
theorem dX4_toldNumber_62 : decode cX4_toldNumber 62 = .ok (.iload_n 3, 1) := dk_29 (dk_at dksX4_toldNumber_2 16 rfl rfl)
theorem dX4_toldNumber_63 : decode cX4_toldNumber 63 = .ok (.ireturn, 1) := dk_172 (dk_at dksX4_toldNumber_2 17 rfl rfl)
abbrev cX4_readOdds : ByteArray := prog_23_method_39_code
def yX4_readOdds : MethodName := ⟨RX4, "readOdds", "()V"⟩
def dkwX4_readOdds_5 : List UInt8 := [182, 1, 31, 42, 27, 182, 1, 135, 177]
abbrev dktX4_readOdds_5 : List UInt8 := dkwX4_readOdds_5 ++ []
def dkwX4_readOdds_4 : List UInt8 := [182, 1, 34, 42, 180, 0, 224, 158, 0, 4, 177, 42, 89, 180, 1, 132, 4, 27, 120, 128, 181, 1, 132, 42]
abbrev dktX4_readOdds_4 : List UInt8 := dkwX4_readOdds_4 ++ dktX4_readOdds_5
def dkwX4_readOdds_3 : List UInt8 := [7, 167, 0, 4, 2, 60, 27, 155, 0, 15, 42, 180, 1, 132, 27, 122, 4, 126, 4, 160, 0, 8, 42, 5]
abbrev dktX4_readOdds_3 : List UInt8 := dkwX4_readOdds_3 ++ dktX4_readOdds_4
def dkwX4_readOdds_2 : List UInt8 := [42, 20, 0, 239, 182, 1, 27, 153, 0, 7, 6, 167, 0, 18, 42, 20, 1, 13, 182, 1, 27, 153, 0, 7]
abbrev dktX4_readOdds_2 : List UInt8 := dkwX4_readOdds_2 ++ dktX4_readOdds_3
def dkwX4_readOdds_1 : List UInt8 := [182, 1, 27, 153, 0, 7, 4, 167, 0, 46, 42, 20, 0, 237, 182, 1, 27, 153, 0, 7, 5, 167, 0, 32]
abbrev dktX4_readOdds_1 : List UInt8 := dkwX4_readOdds_1 ++ dktX4_readOdds_2
def dkwX4_readOdds_0 : List UInt8 := [42, 182, 1, 31, 42, 20, 0, 233, 182, 1, 27, 153, 0, 7, 3, 167, 0, 60, 42, 20, 0, 235]
abbrev dktX4_readOdds_0 : List UInt8 := dkwX4_readOdds_0 ++ dktX4_readOdds_1
theorem dksX4_readOdds_0 : cX4_readOdds.data.toList.drop 0 = dktX4_readOdds_0 := by decide +kernel
theorem dksX4_readOdds_1 : cX4_readOdds.data.toList.drop 22 = dktX4_readOdds_1 := dk_seg dksX4_readOdds_0 22 rfl rfl
theorem dksX4_readOdds_2 : cX4_readOdds.data.toList.drop 46 = dktX4_readOdds_2 := dk_seg dksX4_readOdds_1 24 rfl rfl
theorem dksX4_readOdds_3 : cX4_readOdds.data.toList.drop 70 = dktX4_readOdds_3 := dk_seg dksX4_readOdds_2 24 rfl rfl
theorem dksX4_readOdds_4 : cX4_readOdds.data.toList.drop 94 = dktX4_readOdds_4 := dk_seg dksX4_readOdds_3 24 rfl rfl
theorem dksX4_readOdds_5 : cX4_readOdds.data.toList.drop 118 = dktX4_readOdds_5 := dk_seg dksX4_readOdds_4 24 rfl rfl
theorem dX4_readOdds_0 : decode cX4_readOdds 0 = .ok (.aload_n 0, 1) := dk_42 (dk_at dksX4_readOdds_0 0 rfl rfl)
theorem dX4_readOdds_1 : decode cX4_readOdds 1 = .ok (.invokevirtual 287, 3) := dk_182 1 31 (dk_at dksX4_readOdds_0 1 rfl rfl)
theorem dX4_readOdds_4 : decode cX4_readOdds 4 = .ok (.aload_n 0, 1) := dk_42 (dk_at dksX4_readOdds_0 4 rfl rfl)
theorem dX4_readOdds_5 : decode cX4_readOdds 5 = .ok (.ldc2_w 233, 3) := dk_20 0 233 (dk_at dksX4_readOdds_0 5 rfl rfl)
theorem dX4_readOdds_8 : decode cX4_readOdds 8 = .ok (.invokevirtual 283, 3) := dk_182 1 27 (dk_at dksX4_readOdds_0 8 rfl rfl)
theorem dX4_readOdds_11 : decode cX4_readOdds 11 = .ok (.ifCond .eq 7, 3) := dk_153 0 7 (dk_at dksX4_readOdds_0 11 rfl rfl)
theorem dX4_readOdds_14 : decode cX4_readOdds 14 = .ok (.iconst 0, 1) := dk_3 (dk_at dksX4_readOdds_0 14 rfl rfl)
theorem dX4_readOdds_15 : decode cX4_readOdds 15 = .ok (.goto 60, 3) := dk_167 0 60 (dk_at dksX4_readOdds_0 15 rfl rfl)
theorem dX4_readOdds_18 : decode cX4_readOdds 18 = .ok (.aload_n 0, 1) := dk_42 (dk_at dksX4_readOdds_0 18 rfl rfl)
theorem dX4_readOdds_19 : decode cX4_readOdds 19 = .ok (.ldc2_w 235, 3) := dk_20 0 235 (dk_at dksX4_readOdds_0 19 rfl rfl)
theorem dX4_readOdds_22 : decode cX4_readOdds 22 = .ok (.invokevirtual 283, 3) := dk_182 1 27 (dk_at dksX4_readOdds_1 0 rfl rfl)
theorem dX4_readOdds_25 : decode cX4_readOdds 25 = .ok (.ifCond .eq 7, 3) := dk_153 0 7 (dk_at dksX4_readOdds_1 3 rfl rfl)
theorem dX4_readOdds_28 : decode cX4_readOdds 28 = .ok (.iconst 1, 1) := dk_4 (dk_at dksX4_readOdds_1 6 rfl rfl)
theorem dX4_readOdds_29 : decode cX4_readOdds 29 = .ok (.goto 46, 3) := dk_167 0 46 (dk_at dksX4_readOdds_1 7 rfl rfl)
theorem dX4_readOdds_32 : decode cX4_readOdds 32 = .ok (.aload_n 0, 1) := dk_42 (dk_at dksX4_readOdds_1 10 rfl rfl)
theorem dX4_readOdds_33 : decode cX4_readOdds 33 = .ok (.ldc2_w 237, 3) := dk_20 0 237 (dk_at dksX4_readOdds_1 11 rfl rfl)
theorem dX4_readOdds_36 : decode cX4_readOdds 36 = .ok (.invokevirtual 283, 3) := dk_182 1 27 (dk_at dksX4_readOdds_1 14 rfl rfl)
theorem dX4_readOdds_39 : decode cX4_readOdds 39 = .ok (.ifCond .eq 7, 3) := dk_153 0 7 (dk_at dksX4_readOdds_1 17 rfl rfl)
theorem dX4_readOdds_42 : decode cX4_readOdds 42 = .ok (.iconst 2, 1) := dk_5 (dk_at dksX4_readOdds_1 20 rfl rfl)
theorem dX4_readOdds_43 : decode cX4_readOdds 43 = .ok (.goto 32, 3) := dk_167 0 32 (dk_at dksX4_readOdds_1 21 rfl rfl)
theorem dX4_readOdds_46 : decode cX4_readOdds 46 = .ok (.aload_n 0, 1) := dk_42 (dk_at dksX4_readOdds_2 0 rfl rfl)
theorem dX4_readOdds_47 : decode cX4_readOdds 47 = .ok (.ldc2_w 239, 3) := dk_20 0 239 (dk_at dksX4_readOdds_2 1 rfl rfl)
theorem dX4_readOdds_50 : decode cX4_readOdds 50 = .ok (.invokevirtual 283, 3) := dk_182 1 27 (dk_at dksX4_readOdds_2 4 rfl rfl)
theorem dX4_readOdds_53 : decode cX4_readOdds 53 = .ok (.ifCond .eq 7, 3) := dk_153 0 7 (dk_at dksX4_readOdds_2 7 rfl rfl)
theorem dX4_readOdds_56 : decode cX4_readOdds 56 = .ok (.iconst 3, 1) := dk_6 (dk_at dksX4_readOdds_2 10 rfl rfl)
theorem dX4_readOdds_57 : decode cX4_readOdds 57 = .ok (.goto 18, 3) := dk_167 0 18 (dk_at dksX4_readOdds_2 11 rfl rfl)
theorem dX4_readOdds_60 : decode cX4_readOdds 60 = .ok (.aload_n 0, 1) := dk_42 (dk_at dksX4_readOdds_2 14 rfl rfl)
theorem dX4_readOdds_61 : decode cX4_readOdds 61 = .ok (.ldc2_w 269, 3) := dk_20 1 13 (dk_at dksX4_readOdds_2 15 rfl rfl)
theorem dX4_readOdds_64 : decode cX4_readOdds 64 = .ok (.invokevirtual 283, 3) := dk_182 1 27 (dk_at dksX4_readOdds_2 18 rfl rfl)
theorem dX4_readOdds_67 : decode cX4_readOdds 67 = .ok (.ifCond .eq 7, 3) := dk_153 0 7 (dk_at dksX4_readOdds_2 21 rfl rfl)
theorem dX4_readOdds_70 : decode cX4_readOdds 70 = .ok (.iconst 4, 1) := dk_7 (dk_at dksX4_readOdds_3 0 rfl rfl)
theorem dX4_readOdds_71 : decode cX4_readOdds 71 = .ok (.goto 4, 3) := dk_167 0 4 (dk_at dksX4_readOdds_3 1 rfl rfl)
theorem dX4_readOdds_74 : decode cX4_readOdds 74 = .ok (.iconst (-1), 1) := dk_2 (dk_at dksX4_readOdds_3 4 rfl rfl)
theorem dX4_readOdds_75 : decode cX4_readOdds 75 = .ok (.istore_n 1, 1) := dk_60 (dk_at dksX4_readOdds_3 5 rfl rfl)
theorem dX4_readOdds_76 : decode cX4_readOdds 76 = .ok (.iload_n 1, 1) := dk_27 (dk_at dksX4_readOdds_3 6 rfl rfl)
theorem dX4_readOdds_77 : decode cX4_readOdds 77 = .ok (.ifCond .lt 15, 3) := dk_155 0 15 (dk_at dksX4_readOdds_3 7 rfl rfl)
theorem dX4_readOdds_80 : decode cX4_readOdds 80 = .ok (.aload_n 0, 1) := dk_42 (dk_at dksX4_readOdds_3 10 rfl rfl)
theorem dX4_readOdds_81 : decode cX4_readOdds 81 = .ok (.getfield 388, 3) := dk_180 1 132 (dk_at dksX4_readOdds_3 11 rfl rfl)
theorem dX4_readOdds_84 : decode cX4_readOdds 84 = .ok (.iload_n 1, 1) := dk_27 (dk_at dksX4_readOdds_3 14 rfl rfl)
theorem dX4_readOdds_85 : decode cX4_readOdds 85 = .ok (.ishr, 1) := dk_122 (dk_at dksX4_readOdds_3 15 rfl rfl)
theorem dX4_readOdds_86 : decode cX4_readOdds 86 = .ok (.iconst 1, 1) := dk_4 (dk_at dksX4_readOdds_3 16 rfl rfl)
theorem dX4_readOdds_87 : decode cX4_readOdds 87 = .ok (.iand, 1) := dk_126 (dk_at dksX4_readOdds_3 17 rfl rfl)
theorem dX4_readOdds_88 : decode cX4_readOdds 88 = .ok (.iconst 1, 1) := dk_4 (dk_at dksX4_readOdds_3 18 rfl rfl)
theorem dX4_readOdds_89 : decode cX4_readOdds 89 = .ok (.if_icmp .ne 8, 3) := dk_160 0 8 (dk_at dksX4_readOdds_3 19 rfl rfl)
theorem dX4_readOdds_92 : decode cX4_readOdds 92 = .ok (.aload_n 0, 1) := dk_42 (dk_at dksX4_readOdds_3 22 rfl rfl)
theorem dX4_readOdds_93 : decode cX4_readOdds 93 = .ok (.iconst 2, 1) := dk_5 (dk_at dksX4_readOdds_3 23 rfl rfl)
theorem dX4_readOdds_94 : decode cX4_readOdds 94 = .ok (.invokevirtual 290, 3) := dk_182 1 34 (dk_at dksX4_readOdds_4 0 rfl rfl)
theorem dX4_readOdds_97 : decode cX4_readOdds 97 = .ok (.aload_n 0, 1) := dk_42 (dk_at dksX4_readOdds_4 3 rfl rfl)
theorem dX4_readOdds_98 : decode cX4_readOdds 98 = .ok (.getfield 224, 3) := dk_180 0 224 (dk_at dksX4_readOdds_4 4 rfl rfl)
theorem dX4_readOdds_101 : decode cX4_readOdds 101 = .ok (.ifCond .le 4, 3) := dk_158 0 4 (dk_at dksX4_readOdds_4 7 rfl rfl)
theorem dX4_readOdds_104 : decode cX4_readOdds 104 = .ok (.return_, 1) := dk_177 (dk_at dksX4_readOdds_4 10 rfl rfl)
theorem dX4_readOdds_105 : decode cX4_readOdds 105 = .ok (.aload_n 0, 1) := dk_42 (dk_at dksX4_readOdds_4 11 rfl rfl)
theorem dX4_readOdds_106 : decode cX4_readOdds 106 = .ok (.dup, 1) := dk_89 (dk_at dksX4_readOdds_4 12 rfl rfl)
theorem dX4_readOdds_107 : decode cX4_readOdds 107 = .ok (.getfield 388, 3) := dk_180 1 132 (dk_at dksX4_readOdds_4 13 rfl rfl)
theorem dX4_readOdds_110 : decode cX4_readOdds 110 = .ok (.iconst 1, 1) := dk_4 (dk_at dksX4_readOdds_4 16 rfl rfl)
theorem dX4_readOdds_111 : decode cX4_readOdds 111 = .ok (.iload_n 1, 1) := dk_27 (dk_at dksX4_readOdds_4 17 rfl rfl)
theorem dX4_readOdds_112 : decode cX4_readOdds 112 = .ok (.ishl, 1) := dk_120 (dk_at dksX4_readOdds_4 18 rfl rfl)
theorem dX4_readOdds_113 : decode cX4_readOdds 113 = .ok (.ior, 1) := dk_128 (dk_at dksX4_readOdds_4 19 rfl rfl)
theorem dX4_readOdds_114 : decode cX4_readOdds 114 = .ok (.putfield 388, 3) := dk_181 1 132 (dk_at dksX4_readOdds_4 20 rfl rfl)
theorem dX4_readOdds_117 : decode cX4_readOdds 117 = .ok (.aload_n 0, 1) := dk_42 (dk_at dksX4_readOdds_4 23 rfl rfl)
theorem dX4_readOdds_118 : decode cX4_readOdds 118 = .ok (.invokevirtual 287, 3) := dk_182 1 31 (dk_at dksX4_readOdds_5 0 rfl rfl)
theorem dX4_readOdds_121 : decode cX4_readOdds 121 = .ok (.aload_n 0, 1) := dk_42 (dk_at dksX4_readOdds_5 3 rfl rfl)
theorem dX4_readOdds_122 : decode cX4_readOdds 122 = .ok (.iload_n 1, 1) := dk_27 (dk_at dksX4_readOdds_5 4 rfl rfl)
theorem dX4_readOdds_123 : decode cX4_readOdds 123 = .ok (.invokevirtual 391, 3) := dk_182 1 135 (dk_at dksX4_readOdds_5 5 rfl rfl)
theorem dX4_readOdds_126 : decode cX4_readOdds 126 = .ok (.return_, 1) := dk_177 (dk_at dksX4_readOdds_5 8 rfl rfl)
abbrev cX4_formula : ByteArray := prog_23_method_31_code
def yX4_formula : MethodName := ⟨RX4, "formula", "(I)V"⟩
def dkwX4_formula_8 : List UInt8 := [180, 0, 224, 154, 0, 8, 42, 3, 182, 1, 92, 177]
abbrev dktX4_formula_8 : List UInt8 := dkwX4_formula_8 ++ []
def dkwX4_formula_7 : List UInt8 := [167, 255, 132, 42, 180, 0, 224, 154, 0, 15, 42, 182, 1, 89, 153, 0, 8, 42, 5, 182, 1, 34, 42]
abbrev dktX4_formula_7 : List UInt8 := dkwX4_formula_7 ++ dktX4_formula_8
def dkwX4_formula_6 : List UInt8 := [42, 89, 180, 1, 48, 4, 96, 181, 1, 48, 42, 182, 1, 31, 42, 182, 1, 83, 167, 0, 5, 3, 61]
abbrev dktX4_formula_6 : List UInt8 := dkwX4_formula_6 ++ dktX4_formula_7
def dkwX4_formula_5 : List UInt8 := [182, 1, 95, 154, 0, 42, 42, 29, 184, 1, 51, 182, 1, 92, 42, 180, 0, 35, 42, 180, 1, 48, 29, 79]
abbrev dktX4_formula_5 : List UInt8 := dkwX4_formula_5 ++ dktX4_formula_6
def dkwX4_formula_4 : List UInt8 := [181, 1, 58, 42, 182, 1, 31, 167, 0, 63, 29, 153, 0, 57, 29, 184, 1, 51, 7, 160, 0, 10, 42]
abbrev dktX4_formula_4 : List UInt8 := dkwX4_formula_4 ++ dktX4_formula_5
def dkwX4_formula_3 : List UInt8 := [42, 3, 182, 1, 92, 42, 89, 180, 1, 48, 4, 100, 181, 1, 48, 42, 89, 180, 1, 58, 4, 100]
abbrev dktX4_formula_3 : List UInt8 := dkwX4_formula_3 ++ dktX4_formula_4
def dkwX4_formula_2 : List UInt8 := [154, 0, 119, 42, 182, 1, 86, 62, 42, 180, 0, 211, 16, 41, 160, 0, 42, 42, 182, 1, 89, 153, 0, 35]
abbrev dktX4_formula_2 : List UInt8 := dkwX4_formula_2 ++ dktX4_formula_3
def dkwX4_formula_1 : List UInt8 := [181, 1, 58, 42, 3, 181, 1, 64, 42, 182, 1, 83, 4, 61, 28, 153, 0, 126, 42, 180, 0, 224]
abbrev dktX4_formula_1 : List UInt8 := dkwX4_formula_1 ++ dktX4_formula_2
def dkwX4_formula_0 : List UInt8 := [42, 27, 181, 1, 45, 42, 180, 0, 23, 42, 180, 1, 45, 3, 79, 42, 3, 181, 1, 48, 42, 3]
abbrev dktX4_formula_0 : List UInt8 := dkwX4_formula_0 ++ dktX4_formula_1
theorem dksX4_formula_0 : cX4_formula.data.toList.drop 0 = dktX4_formula_0 := by decide +kernel
theorem dksX4_formula_1 : cX4_formula.data.toList.drop 22 = dktX4_formula_1 := dk_seg dksX4_formula_0 22 rfl rfl
theorem dksX4_formula_2 : cX4_formula.data.toList.drop 44 = dktX4_formula_2 := dk_seg dksX4_formula_1 22 rfl rfl
theorem dksX4_formula_3 : cX4_formula.data.toList.drop 68 = dktX4_formula_3 := dk_seg dksX4_formula_2 24 rfl rfl
theorem dksX4_formula_4 : cX4_formula.data.toList.drop 90 = dktX4_formula_4 := dk_seg dksX4_formula_3 22 rfl rfl
theorem dksX4_formula_5 : cX4_formula.data.toList.drop 113 = dktX4_formula_5 := dk_seg dksX4_formula_4 23 rfl rfl
theorem dksX4_formula_6 : cX4_formula.data.toList.drop 137 = dktX4_formula_6 := dk_seg dksX4_formula_5 24 rfl rfl
theorem dksX4_formula_7 : cX4_formula.data.toList.drop 160 = dktX4_formula_7 := dk_seg dksX4_formula_6 23 rfl rfl
theorem dksX4_formula_8 : cX4_formula.data.toList.drop 183 = dktX4_formula_8 := dk_seg dksX4_formula_7 23 rfl rfl
theorem dX4_formula_0 : decode cX4_formula 0 = .ok (.aload_n 0, 1) := dk_42 (dk_at dksX4_formula_0 0 rfl rfl)
theorem dX4_formula_1 : decode cX4_formula 1 = .ok (.iload_n 1, 1) := dk_27 (dk_at dksX4_formula_0 1 rfl rfl)
theorem dX4_formula_2 : decode cX4_formula 2 = .ok (.putfield 301, 3) := dk_181 1 45 (dk_at dksX4_formula_0 2 rfl rfl)
theorem dX4_formula_5 : decode cX4_formula 5 = .ok (.aload_n 0, 1) := dk_42 (dk_at dksX4_formula_0 5 rfl rfl)
theorem dX4_formula_6 : decode cX4_formula 6 = .ok (.getfield 23, 3) := dk_180 0 23 (dk_at dksX4_formula_0 6 rfl rfl)
theorem dX4_formula_9 : decode cX4_formula 9 = .ok (.aload_n 0, 1) := dk_42 (dk_at dksX4_formula_0 9 rfl rfl)
theorem dX4_formula_10 : decode cX4_formula 10 = .ok (.getfield 301, 3) := dk_180 1 45 (dk_at dksX4_formula_0 10 rfl rfl)
theorem dX4_formula_13 : decode cX4_formula 13 = .ok (.iconst 0, 1) := dk_3 (dk_at dksX4_formula_0 13 rfl rfl)
theorem dX4_formula_14 : decode cX4_formula 14 = .ok (.iastore, 1) := dk_79 (dk_at dksX4_formula_0 14 rfl rfl)
theorem dX4_formula_15 : decode cX4_formula 15 = .ok (.aload_n 0, 1) := dk_42 (dk_at dksX4_formula_0 15 rfl rfl)
theorem dX4_formula_16 : decode cX4_formula 16 = .ok (.iconst 0, 1) := dk_3 (dk_at dksX4_formula_0 16 rfl rfl)
theorem dX4_formula_17 : decode cX4_formula 17 = .ok (.putfield 304, 3) := dk_181 1 48 (dk_at dksX4_formula_0 17 rfl rfl)
theorem dX4_formula_20 : decode cX4_formula 20 = .ok (.aload_n 0, 1) := dk_42 (dk_at dksX4_formula_0 20 rfl rfl)
theorem dX4_formula_21 : decode cX4_formula 21 = .ok (.iconst 0, 1) := dk_3 (dk_at dksX4_formula_0 21 rfl rfl)
theorem dX4_formula_22 : decode cX4_formula 22 = .ok (.putfield 314, 3) := dk_181 1 58 (dk_at dksX4_formula_1 0 rfl rfl)
theorem dX4_formula_25 : decode cX4_formula 25 = .ok (.aload_n 0, 1) := dk_42 (dk_at dksX4_formula_1 3 rfl rfl)
theorem dX4_formula_26 : decode cX4_formula 26 = .ok (.iconst 0, 1) := dk_3 (dk_at dksX4_formula_1 4 rfl rfl)
theorem dX4_formula_27 : decode cX4_formula 27 = .ok (.putfield 320, 3) := dk_181 1 64 (dk_at dksX4_formula_1 5 rfl rfl)
theorem dX4_formula_30 : decode cX4_formula 30 = .ok (.aload_n 0, 1) := dk_42 (dk_at dksX4_formula_1 8 rfl rfl)
theorem dX4_formula_31 : decode cX4_formula 31 = .ok (.invokevirtual 339, 3) := dk_182 1 83 (dk_at dksX4_formula_1 9 rfl rfl)
theorem dX4_formula_34 : decode cX4_formula 34 = .ok (.iconst 1, 1) := dk_4 (dk_at dksX4_formula_1 12 rfl rfl)
theorem dX4_formula_35 : decode cX4_formula 35 = .ok (.istore_n 2, 1) := dk_61 (dk_at dksX4_formula_1 13 rfl rfl)
theorem dX4_formula_36 : decode cX4_formula 36 = .ok (.iload_n 2, 1) := dk_28 (dk_at dksX4_formula_1 14 rfl rfl)
theorem dX4_formula_37 : decode cX4_formula 37 = .ok (.ifCond .eq 126, 3) := dk_153 0 126 (dk_at dksX4_formula_1 15 rfl rfl)
theorem dX4_formula_40 : decode cX4_formula 40 = .ok (.aload_n 0, 1) := dk_42 (dk_at dksX4_formula_1 18 rfl rfl)
theorem dX4_formula_41 : decode cX4_formula 41 = .ok (.getfield 224, 3) := dk_180 0 224 (dk_at dksX4_formula_1 19 rfl rfl)
theorem dX4_formula_44 : decode cX4_formula 44 = .ok (.ifCond .ne 119, 3) := dk_154 0 119 (dk_at dksX4_formula_2 0 rfl rfl)
theorem dX4_formula_47 : decode cX4_formula 47 = .ok (.aload_n 0, 1) := dk_42 (dk_at dksX4_formula_2 3 rfl rfl)
theorem dX4_formula_48 : decode cX4_formula 48 = .ok (.invokevirtual 342, 3) := dk_182 1 86 (dk_at dksX4_formula_2 4 rfl rfl)
theorem dX4_formula_51 : decode cX4_formula 51 = .ok (.istore_n 3, 1) := dk_62 (dk_at dksX4_formula_2 7 rfl rfl)
theorem dX4_formula_52 : decode cX4_formula 52 = .ok (.aload_n 0, 1) := dk_42 (dk_at dksX4_formula_2 8 rfl rfl)
theorem dX4_formula_53 : decode cX4_formula 53 = .ok (.getfield 211, 3) := dk_180 0 211 (dk_at dksX4_formula_2 9 rfl rfl)
theorem dX4_formula_56 : decode cX4_formula 56 = .ok (.bipush 41, 2) := dk_16 41 (dk_at dksX4_formula_2 12 rfl rfl)
theorem dX4_formula_58 : decode cX4_formula 58 = .ok (.if_icmp .ne 42, 3) := dk_160 0 42 (dk_at dksX4_formula_2 14 rfl rfl)
theorem dX4_formula_61 : decode cX4_formula 61 = .ok (.aload_n 0, 1) := dk_42 (dk_at dksX4_formula_2 17 rfl rfl)
theorem dX4_formula_62 : decode cX4_formula 62 = .ok (.invokevirtual 345, 3) := dk_182 1 89 (dk_at dksX4_formula_2 18 rfl rfl)
theorem dX4_formula_65 : decode cX4_formula 65 = .ok (.ifCond .eq 35, 3) := dk_153 0 35 (dk_at dksX4_formula_2 21 rfl rfl)
theorem dX4_formula_68 : decode cX4_formula 68 = .ok (.aload_n 0, 1) := dk_42 (dk_at dksX4_formula_3 0 rfl rfl)
theorem dX4_formula_69 : decode cX4_formula 69 = .ok (.iconst 0, 1) := dk_3 (dk_at dksX4_formula_3 1 rfl rfl)
theorem dX4_formula_70 : decode cX4_formula 70 = .ok (.invokevirtual 348, 3) := dk_182 1 92 (dk_at dksX4_formula_3 2 rfl rfl)
theorem dX4_formula_73 : decode cX4_formula 73 = .ok (.aload_n 0, 1) := dk_42 (dk_at dksX4_formula_3 5 rfl rfl)
theorem dX4_formula_74 : decode cX4_formula 74 = .ok (.dup, 1) := dk_89 (dk_at dksX4_formula_3 6 rfl rfl)
theorem dX4_formula_75 : decode cX4_formula 75 = .ok (.getfield 304, 3) := dk_180 1 48 (dk_at dksX4_formula_3 7 rfl rfl)
theorem dX4_formula_78 : decode cX4_formula 78 = .ok (.iconst 1, 1) := dk_4 (dk_at dksX4_formula_3 10 rfl rfl)
theorem dX4_formula_79 : decode cX4_formula 79 = .ok (.isub, 1) := dk_100 (dk_at dksX4_formula_3 11 rfl rfl)
theorem dX4_formula_80 : decode cX4_formula 80 = .ok (.putfield 304, 3) := dk_181 1 48 (dk_at dksX4_formula_3 12 rfl rfl)
theorem dX4_formula_83 : decode cX4_formula 83 = .ok (.aload_n 0, 1) := dk_42 (dk_at dksX4_formula_3 15 rfl rfl)
theorem dX4_formula_84 : decode cX4_formula 84 = .ok (.dup, 1) := dk_89 (dk_at dksX4_formula_3 16 rfl rfl)
theorem dX4_formula_85 : decode cX4_formula 85 = .ok (.getfield 314, 3) := dk_180 1 58 (dk_at dksX4_formula_3 17 rfl rfl)
theorem dX4_formula_88 : decode cX4_formula 88 = .ok (.iconst 1, 1) := dk_4 (dk_at dksX4_formula_3 20 rfl rfl)
theorem dX4_formula_89 : decode cX4_formula 89 = .ok (.isub, 1) := dk_100 (dk_at dksX4_formula_3 21 rfl rfl)
theorem dX4_formula_90 : decode cX4_formula 90 = .ok (.putfield 314, 3) := dk_181 1 58 (dk_at dksX4_formula_4 0 rfl rfl)
theorem dX4_formula_93 : decode cX4_formula 93 = .ok (.aload_n 0, 1) := dk_42 (dk_at dksX4_formula_4 3 rfl rfl)
theorem dX4_formula_94 : decode cX4_formula 94 = .ok (.invokevirtual 287, 3) := dk_182 1 31 (dk_at dksX4_formula_4 4 rfl rfl)
theorem dX4_formula_97 : decode cX4_formula 97 = .ok (.goto 63, 3) := dk_167 0 63 (dk_at dksX4_formula_4 7 rfl rfl)
theorem dX4_formula_100 : decode cX4_formula 100 = .ok (.iload_n 3, 1) := dk_29 (dk_at dksX4_formula_4 10 rfl rfl)
theorem dX4_formula_101 : decode cX4_formula 101 = .ok (.ifCond .eq 57, 3) := dk_153 0 57 (dk_at dksX4_formula_4 11 rfl rfl)
theorem dX4_formula_104 : decode cX4_formula 104 = .ok (.iload_n 3, 1) := dk_29 (dk_at dksX4_formula_4 14 rfl rfl)
theorem dX4_formula_105 : decode cX4_formula 105 = .ok (.invokestatic 307, 3) := dk_184 1 51 (dk_at dksX4_formula_4 15 rfl rfl)
theorem dX4_formula_108 : decode cX4_formula 108 = .ok (.iconst 4, 1) := dk_7 (dk_at dksX4_formula_4 18 rfl rfl)
theorem dX4_formula_109 : decode cX4_formula 109 = .ok (.if_icmp .ne 10, 3) := dk_160 0 10 (dk_at dksX4_formula_4 19 rfl rfl)
theorem dX4_formula_112 : decode cX4_formula 112 = .ok (.aload_n 0, 1) := dk_42 (dk_at dksX4_formula_4 22 rfl rfl)
theorem dX4_formula_113 : decode cX4_formula 113 = .ok (.invokevirtual 351, 3) := dk_182 1 95 (dk_at dksX4_formula_5 0 rfl rfl)
theorem dX4_formula_116 : decode cX4_formula 116 = .ok (.ifCond .ne 42, 3) := dk_154 0 42 (dk_at dksX4_formula_5 3 rfl rfl)
theorem dX4_formula_119 : decode cX4_formula 119 = .ok (.aload_n 0, 1) := dk_42 (dk_at dksX4_formula_5 6 rfl rfl)
theorem dX4_formula_120 : decode cX4_formula 120 = .ok (.iload_n 3, 1) := dk_29 (dk_at dksX4_formula_5 7 rfl rfl)
theorem dX4_formula_121 : decode cX4_formula 121 = .ok (.invokestatic 307, 3) := dk_184 1 51 (dk_at dksX4_formula_5 8 rfl rfl)
theorem dX4_formula_124 : decode cX4_formula 124 = .ok (.invokevirtual 348, 3) := dk_182 1 92 (dk_at dksX4_formula_5 11 rfl rfl)
theorem dX4_formula_127 : decode cX4_formula 127 = .ok (.aload_n 0, 1) := dk_42 (dk_at dksX4_formula_5 14 rfl rfl)
theorem dX4_formula_128 : decode cX4_formula 128 = .ok (.getfield 35, 3) := dk_180 0 35 (dk_at dksX4_formula_5 15 rfl rfl)
theorem dX4_formula_131 : decode cX4_formula 131 = .ok (.aload_n 0, 1) := dk_42 (dk_at dksX4_formula_5 18 rfl rfl)
theorem dX4_formula_132 : decode cX4_formula 132 = .ok (.getfield 304, 3) := dk_180 1 48 (dk_at dksX4_formula_5 19 rfl rfl)
theorem dX4_formula_135 : decode cX4_formula 135 = .ok (.iload_n 3, 1) := dk_29 (dk_at dksX4_formula_5 22 rfl rfl)
theorem dX4_formula_136 : decode cX4_formula 136 = .ok (.iastore, 1) := dk_79 (dk_at dksX4_formula_5 23 rfl rfl)
theorem dX4_formula_137 : decode cX4_formula 137 = .ok (.aload_n 0, 1) := dk_42 (dk_at dksX4_formula_6 0 rfl rfl)
theorem dX4_formula_138 : decode cX4_formula 138 = .ok (.dup, 1) := dk_89 (dk_at dksX4_formula_6 1 rfl rfl)
theorem dX4_formula_139 : decode cX4_formula 139 = .ok (.getfield 304, 3) := dk_180 1 48 (dk_at dksX4_formula_6 2 rfl rfl)
theorem dX4_formula_142 : decode cX4_formula 142 = .ok (.iconst 1, 1) := dk_4 (dk_at dksX4_formula_6 5 rfl rfl)
theorem dX4_formula_143 : decode cX4_formula 143 = .ok (.iadd, 1) := dk_96 (dk_at dksX4_formula_6 6 rfl rfl)
theorem dX4_formula_144 : decode cX4_formula 144 = .ok (.putfield 304, 3) := dk_181 1 48 (dk_at dksX4_formula_6 7 rfl rfl)
theorem dX4_formula_147 : decode cX4_formula 147 = .ok (.aload_n 0, 1) := dk_42 (dk_at dksX4_formula_6 10 rfl rfl)
theorem dX4_formula_148 : decode cX4_formula 148 = .ok (.invokevirtual 287, 3) := dk_182 1 31 (dk_at dksX4_formula_6 11 rfl rfl)
theorem dX4_formula_151 : decode cX4_formula 151 = .ok (.aload_n 0, 1) := dk_42 (dk_at dksX4_formula_6 14 rfl rfl)
theorem dX4_formula_152 : decode cX4_formula 152 = .ok (.invokevirtual 339, 3) := dk_182 1 83 (dk_at dksX4_formula_6 15 rfl rfl)
theorem dX4_formula_155 : decode cX4_formula 155 = .ok (.goto 5, 3) := dk_167 0 5 (dk_at dksX4_formula_6 18 rfl rfl)
theorem dX4_formula_158 : decode cX4_formula 158 = .ok (.iconst 0, 1) := dk_3 (dk_at dksX4_formula_6 21 rfl rfl)
theorem dX4_formula_159 : decode cX4_formula 159 = .ok (.istore_n 2, 1) := dk_61 (dk_at dksX4_formula_6 22 rfl rfl)
theorem dX4_formula_160 : decode cX4_formula 160 = .ok (.goto (-124), 3) := dk_167 255 132 (dk_at dksX4_formula_7 0 rfl rfl)
theorem dX4_formula_163 : decode cX4_formula 163 = .ok (.aload_n 0, 1) := dk_42 (dk_at dksX4_formula_7 3 rfl rfl)
theorem dX4_formula_164 : decode cX4_formula 164 = .ok (.getfield 224, 3) := dk_180 0 224 (dk_at dksX4_formula_7 4 rfl rfl)
theorem dX4_formula_167 : decode cX4_formula 167 = .ok (.ifCond .ne 15, 3) := dk_154 0 15 (dk_at dksX4_formula_7 7 rfl rfl)
theorem dX4_formula_170 : decode cX4_formula 170 = .ok (.aload_n 0, 1) := dk_42 (dk_at dksX4_formula_7 10 rfl rfl)
theorem dX4_formula_171 : decode cX4_formula 171 = .ok (.invokevirtual 345, 3) := dk_182 1 89 (dk_at dksX4_formula_7 11 rfl rfl)
theorem dX4_formula_174 : decode cX4_formula 174 = .ok (.ifCond .eq 8, 3) := dk_153 0 8 (dk_at dksX4_formula_7 14 rfl rfl)
theorem dX4_formula_177 : decode cX4_formula 177 = .ok (.aload_n 0, 1) := dk_42 (dk_at dksX4_formula_7 17 rfl rfl)
theorem dX4_formula_178 : decode cX4_formula 178 = .ok (.iconst 2, 1) := dk_5 (dk_at dksX4_formula_7 18 rfl rfl)
theorem dX4_formula_179 : decode cX4_formula 179 = .ok (.invokevirtual 290, 3) := dk_182 1 34 (dk_at dksX4_formula_7 19 rfl rfl)
theorem dX4_formula_182 : decode cX4_formula 182 = .ok (.aload_n 0, 1) := dk_42 (dk_at dksX4_formula_7 22 rfl rfl)
theorem dX4_formula_183 : decode cX4_formula 183 = .ok (.getfield 224, 3) := dk_180 0 224 (dk_at dksX4_formula_8 0 rfl rfl)
theorem dX4_formula_186 : decode cX4_formula 186 = .ok (.ifCond .ne 8, 3) := dk_154 0 8 (dk_at dksX4_formula_8 3 rfl rfl)
theorem dX4_formula_189 : decode cX4_formula 189 = .ok (.aload_n 0, 1) := dk_42 (dk_at dksX4_formula_8 6 rfl rfl)
theorem dX4_formula_190 : decode cX4_formula 190 = .ok (.iconst 0, 1) := dk_3 (dk_at dksX4_formula_8 7 rfl rfl)
theorem dX4_formula_191 : decode cX4_formula 191 = .ok (.invokevirtual 348, 3) := dk_182 1 92 (dk_at dksX4_formula_8 8 rfl rfl)
theorem dX4_formula_194 : decode cX4_formula 194 = .ok (.return_, 1) := dk_177 (dk_at dksX4_formula_8 11 rfl rfl)
abbrev cX4_unit : ByteArray := prog_23_method_28_code
def yX4_unit : MethodName := ⟨RX4, "unit", "()V"⟩
def dkwX4_unit_7 : List UInt8 := [156, 0, 10, 42, 180, 0, 208, 167, 0, 4, 28, 182, 1, 54, 42, 182, 1, 31, 177]
abbrev dktX4_unit_7 : List UInt8 := dkwX4_unit_7 ++ []
def dkwX4_unit_6 : List UInt8 := [180, 0, 224, 158, 0, 4, 177, 42, 182, 1, 76, 42, 28, 156, 0, 7, 3, 167, 0, 4, 4, 28]
abbrev dktX4_unit_6 : List UInt8 := dkwX4_unit_6 ++ dktX4_unit_7
def dkwX4_unit_5 : List UInt8 := [180, 0, 211, 5, 159, 0, 7, 28, 155, 0, 10, 42, 182, 1, 73, 153, 0, 8, 42, 5, 182, 1, 34, 42]
abbrev dktX4_unit_5 : List UInt8 := dkwX4_unit_5 ++ dktX4_unit_6
def dkwX4_unit_4 : List UInt8 := [167, 255, 165, 3, 60, 167, 255, 160, 42, 180, 0, 224, 158, 0, 4, 177, 42, 182, 1, 79, 61, 42]
abbrev dktX4_unit_4 : List UInt8 := dkwX4_unit_4 ++ dktX4_unit_5
def dkwX4_unit_3 : List UInt8 := [180, 1, 58, 16, 6, 164, 0, 8, 42, 5, 182, 1, 34, 42, 182, 1, 76, 42, 16, 20, 182, 1, 70]
abbrev dktX4_unit_3 : List UInt8 := dkwX4_unit_3 ++ dktX4_unit_4
def dkwX4_unit_2 : List UInt8 := [182, 1, 70, 167, 255, 208, 42, 180, 0, 211, 16, 40, 160, 0, 37, 42, 182, 1, 73, 154, 0, 12, 42]
abbrev dktX4_unit_2 : List UInt8 := dkwX4_unit_2 ++ dktX4_unit_3
def dkwX4_unit_1 : List UInt8 := [182, 1, 67, 153, 0, 26, 42, 180, 1, 58, 16, 6, 164, 0, 8, 42, 5, 182, 1, 34, 42, 16, 21]
abbrev dktX4_unit_1 : List UInt8 := dkwX4_unit_1 ++ dktX4_unit_2
def dkwX4_unit_0 : List UInt8 := [4, 60, 27, 153, 0, 98, 42, 180, 0, 224, 154, 0, 91, 42, 20, 1, 21, 182, 1, 27, 153, 0, 33, 42]
abbrev dktX4_unit_0 : List UInt8 := dkwX4_unit_0 ++ dktX4_unit_1
theorem dksX4_unit_0 : cX4_unit.data.toList.drop 0 = dktX4_unit_0 := by decide +kernel
theorem dksX4_unit_1 : cX4_unit.data.toList.drop 24 = dktX4_unit_1 := dk_seg dksX4_unit_0 24 rfl rfl
theorem dksX4_unit_2 : cX4_unit.data.toList.drop 47 = dktX4_unit_2 := dk_seg dksX4_unit_1 23 rfl rfl
theorem dksX4_unit_3 : cX4_unit.data.toList.drop 70 = dktX4_unit_3 := dk_seg dksX4_unit_2 23 rfl rfl
theorem dksX4_unit_4 : cX4_unit.data.toList.drop 93 = dktX4_unit_4 := dk_seg dksX4_unit_3 23 rfl rfl
theorem dksX4_unit_5 : cX4_unit.data.toList.drop 115 = dktX4_unit_5 := dk_seg dksX4_unit_4 22 rfl rfl
theorem dksX4_unit_6 : cX4_unit.data.toList.drop 139 = dktX4_unit_6 := dk_seg dksX4_unit_5 24 rfl rfl
theorem dksX4_unit_7 : cX4_unit.data.toList.drop 161 = dktX4_unit_7 := dk_seg dksX4_unit_6 22 rfl rfl
theorem dX4_unit_0 : decode cX4_unit 0 = .ok (.iconst 1, 1) := dk_4 (dk_at dksX4_unit_0 0 rfl rfl)
theorem dX4_unit_1 : decode cX4_unit 1 = .ok (.istore_n 1, 1) := dk_60 (dk_at dksX4_unit_0 1 rfl rfl)
theorem dX4_unit_2 : decode cX4_unit 2 = .ok (.iload_n 1, 1) := dk_27 (dk_at dksX4_unit_0 2 rfl rfl)
theorem dX4_unit_3 : decode cX4_unit 3 = .ok (.ifCond .eq 98, 3) := dk_153 0 98 (dk_at dksX4_unit_0 3 rfl rfl)
theorem dX4_unit_6 : decode cX4_unit 6 = .ok (.aload_n 0, 1) := dk_42 (dk_at dksX4_unit_0 6 rfl rfl)
theorem dX4_unit_7 : decode cX4_unit 7 = .ok (.getfield 224, 3) := dk_180 0 224 (dk_at dksX4_unit_0 7 rfl rfl)
theorem dX4_unit_10 : decode cX4_unit 10 = .ok (.ifCond .ne 91, 3) := dk_154 0 91 (dk_at dksX4_unit_0 10 rfl rfl)
theorem dX4_unit_13 : decode cX4_unit 13 = .ok (.aload_n 0, 1) := dk_42 (dk_at dksX4_unit_0 13 rfl rfl)
theorem dX4_unit_14 : decode cX4_unit 14 = .ok (.ldc2_w 277, 3) := dk_20 1 21 (dk_at dksX4_unit_0 14 rfl rfl)
theorem dX4_unit_17 : decode cX4_unit 17 = .ok (.invokevirtual 283, 3) := dk_182 1 27 (dk_at dksX4_unit_0 17 rfl rfl)
theorem dX4_unit_20 : decode cX4_unit 20 = .ok (.ifCond .eq 33, 3) := dk_153 0 33 (dk_at dksX4_unit_0 20 rfl rfl)
theorem dX4_unit_23 : decode cX4_unit 23 = .ok (.aload_n 0, 1) := dk_42 (dk_at dksX4_unit_0 23 rfl rfl)
theorem dX4_unit_24 : decode cX4_unit 24 = .ok (.invokevirtual 323, 3) := dk_182 1 67 (dk_at dksX4_unit_1 0 rfl rfl)
theorem dX4_unit_27 : decode cX4_unit 27 = .ok (.ifCond .eq 26, 3) := dk_153 0 26 (dk_at dksX4_unit_1 3 rfl rfl)
theorem dX4_unit_30 : decode cX4_unit 30 = .ok (.aload_n 0, 1) := dk_42 (dk_at dksX4_unit_1 6 rfl rfl)
theorem dX4_unit_31 : decode cX4_unit 31 = .ok (.getfield 314, 3) := dk_180 1 58 (dk_at dksX4_unit_1 7 rfl rfl)
theorem dX4_unit_34 : decode cX4_unit 34 = .ok (.bipush 6, 2) := dk_16 6 (dk_at dksX4_unit_1 10 rfl rfl)
theorem dX4_unit_36 : decode cX4_unit 36 = .ok (.if_icmp .le 8, 3) := dk_164 0 8 (dk_at dksX4_unit_1 12 rfl rfl)
theorem dX4_unit_39 : decode cX4_unit 39 = .ok (.aload_n 0, 1) := dk_42 (dk_at dksX4_unit_1 15 rfl rfl)
theorem dX4_unit_40 : decode cX4_unit 40 = .ok (.iconst 2, 1) := dk_5 (dk_at dksX4_unit_1 16 rfl rfl)
theorem dX4_unit_41 : decode cX4_unit 41 = .ok (.invokevirtual 290, 3) := dk_182 1 34 (dk_at dksX4_unit_1 17 rfl rfl)
theorem dX4_unit_44 : decode cX4_unit 44 = .ok (.aload_n 0, 1) := dk_42 (dk_at dksX4_unit_1 20 rfl rfl)
theorem dX4_unit_45 : decode cX4_unit 45 = .ok (.bipush 21, 2) := dk_16 21 (dk_at dksX4_unit_1 21 rfl rfl)
theorem dX4_unit_47 : decode cX4_unit 47 = .ok (.invokevirtual 326, 3) := dk_182 1 70 (dk_at dksX4_unit_2 0 rfl rfl)
theorem dX4_unit_50 : decode cX4_unit 50 = .ok (.goto (-48), 3) := dk_167 255 208 (dk_at dksX4_unit_2 3 rfl rfl)
theorem dX4_unit_53 : decode cX4_unit 53 = .ok (.aload_n 0, 1) := dk_42 (dk_at dksX4_unit_2 6 rfl rfl)
theorem dX4_unit_54 : decode cX4_unit 54 = .ok (.getfield 211, 3) := dk_180 0 211 (dk_at dksX4_unit_2 7 rfl rfl)
theorem dX4_unit_57 : decode cX4_unit 57 = .ok (.bipush 40, 2) := dk_16 40 (dk_at dksX4_unit_2 10 rfl rfl)
theorem dX4_unit_59 : decode cX4_unit 59 = .ok (.if_icmp .ne 37, 3) := dk_160 0 37 (dk_at dksX4_unit_2 12 rfl rfl)
theorem dX4_unit_62 : decode cX4_unit 62 = .ok (.aload_n 0, 1) := dk_42 (dk_at dksX4_unit_2 15 rfl rfl)
theorem dX4_unit_63 : decode cX4_unit 63 = .ok (.invokevirtual 329, 3) := dk_182 1 73 (dk_at dksX4_unit_2 16 rfl rfl)
theorem dX4_unit_66 : decode cX4_unit 66 = .ok (.ifCond .ne 12, 3) := dk_154 0 12 (dk_at dksX4_unit_2 19 rfl rfl)
theorem dX4_unit_69 : decode cX4_unit 69 = .ok (.aload_n 0, 1) := dk_42 (dk_at dksX4_unit_2 22 rfl rfl)
theorem dX4_unit_70 : decode cX4_unit 70 = .ok (.getfield 314, 3) := dk_180 1 58 (dk_at dksX4_unit_3 0 rfl rfl)
theorem dX4_unit_73 : decode cX4_unit 73 = .ok (.bipush 6, 2) := dk_16 6 (dk_at dksX4_unit_3 3 rfl rfl)
theorem dX4_unit_75 : decode cX4_unit 75 = .ok (.if_icmp .le 8, 3) := dk_164 0 8 (dk_at dksX4_unit_3 5 rfl rfl)
theorem dX4_unit_78 : decode cX4_unit 78 = .ok (.aload_n 0, 1) := dk_42 (dk_at dksX4_unit_3 8 rfl rfl)
theorem dX4_unit_79 : decode cX4_unit 79 = .ok (.iconst 2, 1) := dk_5 (dk_at dksX4_unit_3 9 rfl rfl)
theorem dX4_unit_80 : decode cX4_unit 80 = .ok (.invokevirtual 290, 3) := dk_182 1 34 (dk_at dksX4_unit_3 10 rfl rfl)
theorem dX4_unit_83 : decode cX4_unit 83 = .ok (.aload_n 0, 1) := dk_42 (dk_at dksX4_unit_3 13 rfl rfl)
theorem dX4_unit_84 : decode cX4_unit 84 = .ok (.invokevirtual 332, 3) := dk_182 1 76 (dk_at dksX4_unit_3 14 rfl rfl)
theorem dX4_unit_87 : decode cX4_unit 87 = .ok (.aload_n 0, 1) := dk_42 (dk_at dksX4_unit_3 17 rfl rfl)
theorem dX4_unit_88 : decode cX4_unit 88 = .ok (.bipush 20, 2) := dk_16 20 (dk_at dksX4_unit_3 18 rfl rfl)
theorem dX4_unit_90 : decode cX4_unit 90 = .ok (.invokevirtual 326, 3) := dk_182 1 70 (dk_at dksX4_unit_3 20 rfl rfl)
theorem dX4_unit_93 : decode cX4_unit 93 = .ok (.goto (-91), 3) := dk_167 255 165 (dk_at dksX4_unit_4 0 rfl rfl)
theorem dX4_unit_96 : decode cX4_unit 96 = .ok (.iconst 0, 1) := dk_3 (dk_at dksX4_unit_4 3 rfl rfl)
theorem dX4_unit_97 : decode cX4_unit 97 = .ok (.istore_n 1, 1) := dk_60 (dk_at dksX4_unit_4 4 rfl rfl)
theorem dX4_unit_98 : decode cX4_unit 98 = .ok (.goto (-96), 3) := dk_167 255 160 (dk_at dksX4_unit_4 5 rfl rfl)
theorem dX4_unit_101 : decode cX4_unit 101 = .ok (.aload_n 0, 1) := dk_42 (dk_at dksX4_unit_4 8 rfl rfl)
theorem dX4_unit_102 : decode cX4_unit 102 = .ok (.getfield 224, 3) := dk_180 0 224 (dk_at dksX4_unit_4 9 rfl rfl)
theorem dX4_unit_105 : decode cX4_unit 105 = .ok (.ifCond .le 4, 3) := dk_158 0 4 (dk_at dksX4_unit_4 12 rfl rfl)
theorem dX4_unit_108 : decode cX4_unit 108 = .ok (.return_, 1) := dk_177 (dk_at dksX4_unit_4 15 rfl rfl)
theorem dX4_unit_109 : decode cX4_unit 109 = .ok (.aload_n 0, 1) := dk_42 (dk_at dksX4_unit_4 16 rfl rfl)
theorem dX4_unit_110 : decode cX4_unit 110 = .ok (.invokevirtual 335, 3) := dk_182 1 79 (dk_at dksX4_unit_4 17 rfl rfl)
theorem dX4_unit_113 : decode cX4_unit 113 = .ok (.istore_n 2, 1) := dk_61 (dk_at dksX4_unit_4 20 rfl rfl)
theorem dX4_unit_114 : decode cX4_unit 114 = .ok (.aload_n 0, 1) := dk_42 (dk_at dksX4_unit_4 21 rfl rfl)
theorem dX4_unit_115 : decode cX4_unit 115 = .ok (.getfield 211, 3) := dk_180 0 211 (dk_at dksX4_unit_5 0 rfl rfl)
theorem dX4_unit_118 : decode cX4_unit 118 = .ok (.iconst 2, 1) := dk_5 (dk_at dksX4_unit_5 3 rfl rfl)
theorem dX4_unit_119 : decode cX4_unit 119 = .ok (.if_icmp .eq 7, 3) := dk_159 0 7 (dk_at dksX4_unit_5 4 rfl rfl)
theorem dX4_unit_122 : decode cX4_unit 122 = .ok (.iload_n 2, 1) := dk_28 (dk_at dksX4_unit_5 7 rfl rfl)
theorem dX4_unit_123 : decode cX4_unit 123 = .ok (.ifCond .lt 10, 3) := dk_155 0 10 (dk_at dksX4_unit_5 8 rfl rfl)
theorem dX4_unit_126 : decode cX4_unit 126 = .ok (.aload_n 0, 1) := dk_42 (dk_at dksX4_unit_5 11 rfl rfl)
theorem dX4_unit_127 : decode cX4_unit 127 = .ok (.invokevirtual 329, 3) := dk_182 1 73 (dk_at dksX4_unit_5 12 rfl rfl)
theorem dX4_unit_130 : decode cX4_unit 130 = .ok (.ifCond .eq 8, 3) := dk_153 0 8 (dk_at dksX4_unit_5 15 rfl rfl)
theorem dX4_unit_133 : decode cX4_unit 133 = .ok (.aload_n 0, 1) := dk_42 (dk_at dksX4_unit_5 18 rfl rfl)
theorem dX4_unit_134 : decode cX4_unit 134 = .ok (.iconst 2, 1) := dk_5 (dk_at dksX4_unit_5 19 rfl rfl)
theorem dX4_unit_135 : decode cX4_unit 135 = .ok (.invokevirtual 290, 3) := dk_182 1 34 (dk_at dksX4_unit_5 20 rfl rfl)
theorem dX4_unit_138 : decode cX4_unit 138 = .ok (.aload_n 0, 1) := dk_42 (dk_at dksX4_unit_5 23 rfl rfl)
theorem dX4_unit_139 : decode cX4_unit 139 = .ok (.getfield 224, 3) := dk_180 0 224 (dk_at dksX4_unit_6 0 rfl rfl)
theorem dX4_unit_142 : decode cX4_unit 142 = .ok (.ifCond .le 4, 3) := dk_158 0 4 (dk_at dksX4_unit_6 3 rfl rfl)
theorem dX4_unit_145 : decode cX4_unit 145 = .ok (.return_, 1) := dk_177 (dk_at dksX4_unit_6 6 rfl rfl)
theorem dX4_unit_146 : decode cX4_unit 146 = .ok (.aload_n 0, 1) := dk_42 (dk_at dksX4_unit_6 7 rfl rfl)
theorem dX4_unit_147 : decode cX4_unit 147 = .ok (.invokevirtual 332, 3) := dk_182 1 76 (dk_at dksX4_unit_6 8 rfl rfl)
theorem dX4_unit_150 : decode cX4_unit 150 = .ok (.aload_n 0, 1) := dk_42 (dk_at dksX4_unit_6 11 rfl rfl)
theorem dX4_unit_151 : decode cX4_unit 151 = .ok (.iload_n 2, 1) := dk_28 (dk_at dksX4_unit_6 12 rfl rfl)
theorem dX4_unit_152 : decode cX4_unit 152 = .ok (.ifCond .ge 7, 3) := dk_156 0 7 (dk_at dksX4_unit_6 13 rfl rfl)
theorem dX4_unit_155 : decode cX4_unit 155 = .ok (.iconst 0, 1) := dk_3 (dk_at dksX4_unit_6 16 rfl rfl)
theorem dX4_unit_156 : decode cX4_unit 156 = .ok (.goto 4, 3) := dk_167 0 4 (dk_at dksX4_unit_6 17 rfl rfl)
theorem dX4_unit_159 : decode cX4_unit 159 = .ok (.iconst 1, 1) := dk_4 (dk_at dksX4_unit_6 20 rfl rfl)
theorem dX4_unit_160 : decode cX4_unit 160 = .ok (.iload_n 2, 1) := dk_28 (dk_at dksX4_unit_6 21 rfl rfl)
theorem dX4_unit_161 : decode cX4_unit 161 = .ok (.ifCond .ge 10, 3) := dk_156 0 10 (dk_at dksX4_unit_7 0 rfl rfl)
theorem dX4_unit_164 : decode cX4_unit 164 = .ok (.aload_n 0, 1) := dk_42 (dk_at dksX4_unit_7 3 rfl rfl)
theorem dX4_unit_165 : decode cX4_unit 165 = .ok (.getfield 208, 3) := dk_180 0 208 (dk_at dksX4_unit_7 4 rfl rfl)
theorem dX4_unit_168 : decode cX4_unit 168 = .ok (.goto 4, 3) := dk_167 0 4 (dk_at dksX4_unit_7 7 rfl rfl)
theorem dX4_unit_171 : decode cX4_unit 171 = .ok (.iload_n 2, 1) := dk_28 (dk_at dksX4_unit_7 10 rfl rfl)
theorem dX4_unit_172 : decode cX4_unit 172 = .ok (.invokevirtual 310, 3) := dk_182 1 54 (dk_at dksX4_unit_7 11 rfl rfl)
theorem dX4_unit_175 : decode cX4_unit 175 = .ok (.aload_n 0, 1) := dk_42 (dk_at dksX4_unit_7 14 rfl rfl)
theorem dX4_unit_176 : decode cX4_unit 176 = .ok (.invokevirtual 287, 3) := dk_182 1 31 (dk_at dksX4_unit_7 15 rfl rfl)
theorem dX4_unit_179 : decode cX4_unit 179 = .ok (.return_, 1) := dk_177 (dk_at dksX4_unit_7 18 rfl rfl)
abbrev cX4_mayNot : ByteArray := prog_23_method_23_code
def yX4_mayNot : MethodName := ⟨RX4, "mayNot", "()Z"⟩
def dkwX4_mayNot_1 : List UInt8 := [180, 0, 35, 42, 180, 1, 48, 4, 100, 46, 184, 1, 51, 7, 162, 0, 7, 4, 167, 0, 4, 3, 172]
abbrev dktX4_mayNot_1 : List UInt8 := dkwX4_mayNot_1 ++ []
def dkwX4_mayNot_0 : List UInt8 := [42, 180, 1, 48, 153, 0, 37, 42, 180, 0, 35, 42, 180, 1, 48, 4, 100, 46, 16, 20, 159, 0, 21, 42]
abbrev dktX4_mayNot_0 : List UInt8 := dkwX4_mayNot_0 ++ dktX4_mayNot_1
theorem dksX4_mayNot_0 : cX4_mayNot.data.toList.drop 0 = dktX4_mayNot_0 := by decide +kernel
theorem dksX4_mayNot_1 : cX4_mayNot.data.toList.drop 24 = dktX4_mayNot_1 := dk_seg dksX4_mayNot_0 24 rfl rfl
theorem dX4_mayNot_0 : decode cX4_mayNot 0 = .ok (.aload_n 0, 1) := dk_42 (dk_at dksX4_mayNot_0 0 rfl rfl)
theorem dX4_mayNot_1 : decode cX4_mayNot 1 = .ok (.getfield 304, 3) := dk_180 1 48 (dk_at dksX4_mayNot_0 1 rfl rfl)
theorem dX4_mayNot_4 : decode cX4_mayNot 4 = .ok (.ifCond .eq 37, 3) := dk_153 0 37 (dk_at dksX4_mayNot_0 4 rfl rfl)
theorem dX4_mayNot_7 : decode cX4_mayNot 7 = .ok (.aload_n 0, 1) := dk_42 (dk_at dksX4_mayNot_0 7 rfl rfl)
theorem dX4_mayNot_8 : decode cX4_mayNot 8 = .ok (.getfield 35, 3) := dk_180 0 35 (dk_at dksX4_mayNot_0 8 rfl rfl)
theorem dX4_mayNot_11 : decode cX4_mayNot 11 = .ok (.aload_n 0, 1) := dk_42 (dk_at dksX4_mayNot_0 11 rfl rfl)
theorem dX4_mayNot_12 : decode cX4_mayNot 12 = .ok (.getfield 304, 3) := dk_180 1 48 (dk_at dksX4_mayNot_0 12 rfl rfl)
theorem dX4_mayNot_15 : decode cX4_mayNot 15 = .ok (.iconst 1, 1) := dk_4 (dk_at dksX4_mayNot_0 15 rfl rfl)
theorem dX4_mayNot_16 : decode cX4_mayNot 16 = .ok (.isub, 1) := dk_100 (dk_at dksX4_mayNot_0 16 rfl rfl)
theorem dX4_mayNot_17 : decode cX4_mayNot 17 = .ok (.iaload, 1) := dk_46 (dk_at dksX4_mayNot_0 17 rfl rfl)
theorem dX4_mayNot_18 : decode cX4_mayNot 18 = .ok (.bipush 20, 2) := dk_16 20 (dk_at dksX4_mayNot_0 18 rfl rfl)
theorem dX4_mayNot_20 : decode cX4_mayNot 20 = .ok (.if_icmp .eq 21, 3) := dk_159 0 21 (dk_at dksX4_mayNot_0 20 rfl rfl)
theorem dX4_mayNot_23 : decode cX4_mayNot 23 = .ok (.aload_n 0, 1) := dk_42 (dk_at dksX4_mayNot_0 23 rfl rfl)
theorem dX4_mayNot_24 : decode cX4_mayNot 24 = .ok (.getfield 35, 3) := dk_180 0 35 (dk_at dksX4_mayNot_1 0 rfl rfl)
theorem dX4_mayNot_27 : decode cX4_mayNot 27 = .ok (.aload_n 0, 1) := dk_42 (dk_at dksX4_mayNot_1 3 rfl rfl)
theorem dX4_mayNot_28 : decode cX4_mayNot 28 = .ok (.getfield 304, 3) := dk_180 1 48 (dk_at dksX4_mayNot_1 4 rfl rfl)
theorem dX4_mayNot_31 : decode cX4_mayNot 31 = .ok (.iconst 1, 1) := dk_4 (dk_at dksX4_mayNot_1 7 rfl rfl)
theorem dX4_mayNot_32 : decode cX4_mayNot 32 = .ok (.isub, 1) := dk_100 (dk_at dksX4_mayNot_1 8 rfl rfl)
theorem dX4_mayNot_33 : decode cX4_mayNot 33 = .ok (.iaload, 1) := dk_46 (dk_at dksX4_mayNot_1 9 rfl rfl)
theorem dX4_mayNot_34 : decode cX4_mayNot 34 = .ok (.invokestatic 307, 3) := dk_184 1 51 (dk_at dksX4_mayNot_1 10 rfl rfl)
theorem dX4_mayNot_37 : decode cX4_mayNot 37 = .ok (.iconst 4, 1) := dk_7 (dk_at dksX4_mayNot_1 13 rfl rfl)
theorem dX4_mayNot_38 : decode cX4_mayNot 38 = .ok (.if_icmp .ge 7, 3) := dk_162 0 7 (dk_at dksX4_mayNot_1 14 rfl rfl)
theorem dX4_mayNot_41 : decode cX4_mayNot 41 = .ok (.iconst 1, 1) := dk_4 (dk_at dksX4_mayNot_1 17 rfl rfl)
theorem dX4_mayNot_42 : decode cX4_mayNot 42 = .ok (.goto 4, 3) := dk_167 0 4 (dk_at dksX4_mayNot_1 18 rfl rfl)
theorem dX4_mayNot_45 : decode cX4_mayNot 45 = .ok (.iconst 0, 1) := dk_3 (dk_at dksX4_mayNot_1 21 rfl rfl)
theorem dX4_mayNot_46 : decode cX4_mayNot 46 = .ok (.ireturn, 1) := dk_172 (dk_at dksX4_mayNot_1 22 rfl rfl)
abbrev cX4_tight : ByteArray := prog_23_method_20_code
def yX4_tight : MethodName := ⟨RX4, "tight", "(I)I"⟩
def dkwX4_tight_2 : List UInt8 := [4, 172, 5, 172, 6, 172, 7, 172, 8, 172, 16, 6, 172]
abbrev dktX4_tight_2 : List UInt8 := dkwX4_tight_2 ++ []
def dkwX4_tight_1 : List UInt8 := [171, 0, 0, 0, 0, 0, 85, 0, 0, 0, 8, 0, 0, 0, 21, 0, 0, 0, 79, 0, 0, 0, 38, 0, 0, 0, 77, 0, 0, 0, 43, 0, 0, 0, 83, 0, 0, 0, 45, 0, 0, 0, 83, 0, 0, 0, 60, 0, 0, 0, 81, 0, 0, 0, 61, 0, 0, 0, 81, 0, 0, 0, 62, 0, 0, 0, 81, 0, 0, 0, 124, 0, 0, 0, 75]
abbrev dktX4_tight_1 : List UInt8 := dkwX4_tight_1 ++ dktX4_tight_2
def dkwX4_tight_0 : List UInt8 := [26]
abbrev dktX4_tight_0 : List UInt8 := dkwX4_tight_0 ++ dktX4_tight_1
theorem dksX4_tight_0 : cX4_tight.data.toList.drop 0 = dktX4_tight_0 := by decide +kernel
theorem dksX4_tight_1 : cX4_tight.data.toList.drop 1 = dktX4_tight_1 := dk_seg dksX4_tight_0 1 rfl rfl
theorem dksX4_tight_2 : cX4_tight.data.toList.drop 76 = dktX4_tight_2 := dk_seg dksX4_tight_1 75 rfl rfl
theorem dX4_tight_0 : decode cX4_tight 0 = .ok (.iload_n 0, 1) := dk_26 (dk_at dksX4_tight_0 0 rfl rfl)
theorem dX4_tight_1 : decode cX4_tight 1 = .ok (.lookupswitch 85 #[(21, 79), (38, 77), (43, 83), (45, 83), (60, 81), (61, 81), (62, 81), (124, 75)], 75) := by decide +kernel
theorem dX4_tight_76 : decode cX4_tight 76 = .ok (.iconst 1, 1) := dk_4 (dk_at dksX4_tight_2 0 rfl rfl)
theorem dX4_tight_77 : decode cX4_tight 77 = .ok (.ireturn, 1) := dk_172 (dk_at dksX4_tight_2 1 rfl rfl)
theorem dX4_tight_78 : decode cX4_tight 78 = .ok (.iconst 2, 1) := dk_5 (dk_at dksX4_tight_2 2 rfl rfl)
theorem dX4_tight_79 : decode cX4_tight 79 = .ok (.ireturn, 1) := dk_172 (dk_at dksX4_tight_2 3 rfl rfl)
theorem dX4_tight_80 : decode cX4_tight 80 = .ok (.iconst 3, 1) := dk_6 (dk_at dksX4_tight_2 4 rfl rfl)
theorem dX4_tight_81 : decode cX4_tight 81 = .ok (.ireturn, 1) := dk_172 (dk_at dksX4_tight_2 5 rfl rfl)
theorem dX4_tight_82 : decode cX4_tight 82 = .ok (.iconst 4, 1) := dk_7 (dk_at dksX4_tight_2 6 rfl rfl)
theorem dX4_tight_83 : decode cX4_tight 83 = .ok (.ireturn, 1) := dk_172 (dk_at dksX4_tight_2 7 rfl rfl)
theorem dX4_tight_84 : decode cX4_tight 84 = .ok (.iconst 5, 1) := dk_8 (dk_at dksX4_tight_2 8 rfl rfl)
theorem dX4_tight_85 : decode cX4_tight 85 = .ok (.ireturn, 1) := dk_172 (dk_at dksX4_tight_2 9 rfl rfl)
theorem dX4_tight_86 : decode cX4_tight 86 = .ok (.bipush 6, 2) := dk_16 6 (dk_at dksX4_tight_2 10 rfl rfl)
theorem dX4_tight_88 : decode cX4_tight 88 = .ok (.ireturn, 1) := dk_172 (dk_at dksX4_tight_2 12 rfl rfl)
abbrev cX4_openUp : ByteArray := prog_23_method_27_code
def yX4_openUp : MethodName := ⟨RX4, "openUp", "(I)V"⟩
def dkwX4_openUp_1 : List UInt8 := [180, 1, 58, 4, 96, 181, 1, 58, 42, 180, 0, 224, 154, 0, 7, 42, 182, 1, 31, 177]
abbrev dktX4_openUp_1 : List UInt8 := dkwX4_openUp_1 ++ []
def dkwX4_openUp_0 : List UInt8 := [42, 180, 0, 35, 42, 180, 1, 48, 27, 79, 42, 89, 180, 1, 48, 4, 96, 181, 1, 48, 42, 89]
abbrev dktX4_openUp_0 : List UInt8 := dkwX4_openUp_0 ++ dktX4_openUp_1
theorem dksX4_openUp_0 : cX4_openUp.data.toList.drop 0 = dktX4_openUp_0 := by decide +kernel
theorem dksX4_openUp_1 : cX4_openUp.data.toList.drop 22 = dktX4_openUp_1 := dk_seg dksX4_openUp_0 22 rfl rfl
theorem dX4_openUp_0 : decode cX4_openUp 0 = .ok (.aload_n 0, 1) := dk_42 (dk_at dksX4_openUp_0 0 rfl rfl)
theorem dX4_openUp_1 : decode cX4_openUp 1 = .ok (.getfield 35, 3) := dk_180 0 35 (dk_at dksX4_openUp_0 1 rfl rfl)
theorem dX4_openUp_4 : decode cX4_openUp 4 = .ok (.aload_n 0, 1) := dk_42 (dk_at dksX4_openUp_0 4 rfl rfl)
theorem dX4_openUp_5 : decode cX4_openUp 5 = .ok (.getfield 304, 3) := dk_180 1 48 (dk_at dksX4_openUp_0 5 rfl rfl)
theorem dX4_openUp_8 : decode cX4_openUp 8 = .ok (.iload_n 1, 1) := dk_27 (dk_at dksX4_openUp_0 8 rfl rfl)
theorem dX4_openUp_9 : decode cX4_openUp 9 = .ok (.iastore, 1) := dk_79 (dk_at dksX4_openUp_0 9 rfl rfl)
theorem dX4_openUp_10 : decode cX4_openUp 10 = .ok (.aload_n 0, 1) := dk_42 (dk_at dksX4_openUp_0 10 rfl rfl)
theorem dX4_openUp_11 : decode cX4_openUp 11 = .ok (.dup, 1) := dk_89 (dk_at dksX4_openUp_0 11 rfl rfl)
theorem dX4_openUp_12 : decode cX4_openUp 12 = .ok (.getfield 304, 3) := dk_180 1 48 (dk_at dksX4_openUp_0 12 rfl rfl)
theorem dX4_openUp_15 : decode cX4_openUp 15 = .ok (.iconst 1, 1) := dk_4 (dk_at dksX4_openUp_0 15 rfl rfl)
theorem dX4_openUp_16 : decode cX4_openUp 16 = .ok (.iadd, 1) := dk_96 (dk_at dksX4_openUp_0 16 rfl rfl)
theorem dX4_openUp_17 : decode cX4_openUp 17 = .ok (.putfield 304, 3) := dk_181 1 48 (dk_at dksX4_openUp_0 17 rfl rfl)
theorem dX4_openUp_20 : decode cX4_openUp 20 = .ok (.aload_n 0, 1) := dk_42 (dk_at dksX4_openUp_0 20 rfl rfl)
theorem dX4_openUp_21 : decode cX4_openUp 21 = .ok (.dup, 1) := dk_89 (dk_at dksX4_openUp_0 21 rfl rfl)
theorem dX4_openUp_22 : decode cX4_openUp 22 = .ok (.getfield 314, 3) := dk_180 1 58 (dk_at dksX4_openUp_1 0 rfl rfl)
theorem dX4_openUp_25 : decode cX4_openUp 25 = .ok (.iconst 1, 1) := dk_4 (dk_at dksX4_openUp_1 3 rfl rfl)
theorem dX4_openUp_26 : decode cX4_openUp 26 = .ok (.iadd, 1) := dk_96 (dk_at dksX4_openUp_1 4 rfl rfl)
theorem dX4_openUp_27 : decode cX4_openUp 27 = .ok (.putfield 314, 3) := dk_181 1 58 (dk_at dksX4_openUp_1 5 rfl rfl)
theorem dX4_openUp_30 : decode cX4_openUp 30 = .ok (.aload_n 0, 1) := dk_42 (dk_at dksX4_openUp_1 8 rfl rfl)
theorem dX4_openUp_31 : decode cX4_openUp 31 = .ok (.getfield 224, 3) := dk_180 0 224 (dk_at dksX4_openUp_1 9 rfl rfl)
theorem dX4_openUp_34 : decode cX4_openUp 34 = .ok (.ifCond .ne 7, 3) := dk_154 0 7 (dk_at dksX4_openUp_1 12 rfl rfl)
theorem dX4_openUp_37 : decode cX4_openUp 37 = .ok (.aload_n 0, 1) := dk_42 (dk_at dksX4_openUp_1 15 rfl rfl)
theorem dX4_openUp_38 : decode cX4_openUp 38 = .ok (.invokevirtual 287, 3) := dk_182 1 31 (dk_at dksX4_openUp_1 16 rfl rfl)
theorem dX4_openUp_41 : decode cX4_openUp 41 = .ok (.return_, 1) := dk_177 (dk_at dksX4_openUp_1 19 rfl rfl)
abbrev cX4_isFull : ByteArray := prog_23_method_25_code
def yX4_isFull : MethodName := ⟨RX4, "isFull", "()Z"⟩
def dkwX4_isFull_0 : List UInt8 := [42, 180, 1, 61, 16, 90, 159, 0, 12, 42, 180, 1, 64, 16, 30, 160, 0, 7, 4, 167, 0, 4, 3, 172]
abbrev dktX4_isFull_0 : List UInt8 := dkwX4_isFull_0 ++ []
theorem dksX4_isFull_0 : cX4_isFull.data.toList.drop 0 = dktX4_isFull_0 := by decide +kernel
theorem dX4_isFull_0 : decode cX4_isFull 0 = .ok (.aload_n 0, 1) := dk_42 (dk_at dksX4_isFull_0 0 rfl rfl)
theorem dX4_isFull_1 : decode cX4_isFull 1 = .ok (.getfield 317, 3) := dk_180 1 61 (dk_at dksX4_isFull_0 1 rfl rfl)
theorem dX4_isFull_4 : decode cX4_isFull 4 = .ok (.bipush 90, 2) := dk_16 90 (dk_at dksX4_isFull_0 4 rfl rfl)
theorem dX4_isFull_6 : decode cX4_isFull 6 = .ok (.if_icmp .eq 12, 3) := dk_159 0 12 (dk_at dksX4_isFull_0 6 rfl rfl)
theorem dX4_isFull_9 : decode cX4_isFull 9 = .ok (.aload_n 0, 1) := dk_42 (dk_at dksX4_isFull_0 9 rfl rfl)
theorem dX4_isFull_10 : decode cX4_isFull 10 = .ok (.getfield 320, 3) := dk_180 1 64 (dk_at dksX4_isFull_0 10 rfl rfl)
theorem dX4_isFull_13 : decode cX4_isFull 13 = .ok (.bipush 30, 2) := dk_16 30 (dk_at dksX4_isFull_0 13 rfl rfl)
theorem dX4_isFull_15 : decode cX4_isFull 15 = .ok (.if_icmp .ne 7, 3) := dk_160 0 7 (dk_at dksX4_isFull_0 15 rfl rfl)
theorem dX4_isFull_18 : decode cX4_isFull 18 = .ok (.iconst 1, 1) := dk_4 (dk_at dksX4_isFull_0 18 rfl rfl)
theorem dX4_isFull_19 : decode cX4_isFull 19 = .ok (.goto 4, 3) := dk_167 0 4 (dk_at dksX4_isFull_0 19 rfl rfl)
theorem dX4_isFull_22 : decode cX4_isFull 22 = .ok (.iconst 0, 1) := dk_3 (dk_at dksX4_isFull_0 22 rfl rfl)
theorem dX4_isFull_23 : decode cX4_isFull 23 = .ok (.ireturn, 1) := dk_172 (dk_at dksX4_isFull_0 23 rfl rfl)
abbrev cX4_countUnit : ByteArray := prog_23_method_26_code
def yX4_countUnit : MethodName := ⟨RX4, "countUnit", "()V"⟩
def dkwX4_countUnit_0 : List UInt8 := [42, 89, 180, 1, 61, 4, 96, 181, 1, 61, 42, 89, 180, 1, 64, 4, 96, 181, 1, 64, 177]
abbrev dktX4_countUnit_0 : List UInt8 := dkwX4_countUnit_0 ++ []
theorem dksX4_countUnit_0 : cX4_countUnit.data.toList.drop 0 = dktX4_countUnit_0 := by decide +kernel
theorem dX4_countUnit_0 : decode cX4_countUnit 0 = .ok (.aload_n 0, 1) := dk_42 (dk_at dksX4_countUnit_0 0 rfl rfl)
theorem dX4_countUnit_1 : decode cX4_countUnit 1 = .ok (.dup, 1) := dk_89 (dk_at dksX4_countUnit_0 1 rfl rfl)
theorem dX4_countUnit_2 : decode cX4_countUnit 2 = .ok (.getfield 317, 3) := dk_180 1 61 (dk_at dksX4_countUnit_0 2 rfl rfl)
theorem dX4_countUnit_5 : decode cX4_countUnit 5 = .ok (.iconst 1, 1) := dk_4 (dk_at dksX4_countUnit_0 5 rfl rfl)
theorem dX4_countUnit_6 : decode cX4_countUnit 6 = .ok (.iadd, 1) := dk_96 (dk_at dksX4_countUnit_0 6 rfl rfl)
theorem dX4_countUnit_7 : decode cX4_countUnit 7 = .ok (.putfield 317, 3) := dk_181 1 61 (dk_at dksX4_countUnit_0 7 rfl rfl)
theorem dX4_countUnit_10 : decode cX4_countUnit 10 = .ok (.aload_n 0, 1) := dk_42 (dk_at dksX4_countUnit_0 10 rfl rfl)
theorem dX4_countUnit_11 : decode cX4_countUnit 11 = .ok (.dup, 1) := dk_89 (dk_at dksX4_countUnit_0 11 rfl rfl)
theorem dX4_countUnit_12 : decode cX4_countUnit 12 = .ok (.getfield 320, 3) := dk_180 1 64 (dk_at dksX4_countUnit_0 12 rfl rfl)
theorem dX4_countUnit_15 : decode cX4_countUnit 15 = .ok (.iconst 1, 1) := dk_4 (dk_at dksX4_countUnit_0 15 rfl rfl)
theorem dX4_countUnit_16 : decode cX4_countUnit 16 = .ok (.iadd, 1) := dk_96 (dk_at dksX4_countUnit_0 16 rfl rfl)
theorem dX4_countUnit_17 : decode cX4_countUnit 17 = .ok (.putfield 320, 3) := dk_181 1 64 (dk_at dksX4_countUnit_0 17 rfl rfl)
theorem dX4_countUnit_20 : decode cX4_countUnit 20 = .ok (.return_, 1) := dk_177 (dk_at dksX4_countUnit_0 20 rfl rfl)
abbrev cX4_asked : ByteArray := prog_23_method_24_code
def yX4_asked : MethodName := ⟨RX4, "asked", "()I"⟩
def dkwX4_asked_6 : List UInt8 := [154, 0, 8, 16, 9, 167, 0, 4, 2, 172]
abbrev dktX4_asked_6 : List UInt8 := dkwX4_asked_6 ++ []
def dkwX4_asked_5 : List UInt8 := [42, 180, 0, 204, 20, 1, 11, 148, 154, 0, 6, 16, 8, 172, 42, 180, 0, 204, 20, 0, 231, 148]
abbrev dktX4_asked_5 : List UInt8 := dkwX4_asked_5 ++ dktX4_asked_6
def dkwX4_asked_4 : List UInt8 := [20, 1, 3, 148, 154, 0, 6, 16, 6, 172, 42, 180, 0, 204, 20, 1, 1, 148, 154, 0, 6, 16, 7, 172]
abbrev dktX4_asked_4 : List UInt8 := dkwX4_asked_4 ++ dktX4_asked_5
def dkwX4_asked_3 : List UInt8 := [154, 0, 5, 7, 172, 42, 180, 0, 204, 20, 1, 9, 148, 154, 0, 5, 8, 172, 42, 180, 0, 204]
abbrev dktX4_asked_3 : List UInt8 := dkwX4_asked_3 ++ dktX4_asked_4
def dkwX4_asked_2 : List UInt8 := [172, 42, 180, 0, 204, 20, 0, 237, 148, 154, 0, 5, 6, 172, 42, 180, 0, 204, 20, 1, 7, 148]
abbrev dktX4_asked_2 : List UInt8 := dkwX4_asked_2 ++ dktX4_asked_3
def dkwX4_asked_1 : List UInt8 := [180, 0, 204, 20, 0, 249, 148, 154, 0, 5, 4, 172, 42, 180, 0, 204, 20, 0, 235, 148, 154, 0, 5, 5]
abbrev dktX4_asked_1 : List UInt8 := dkwX4_asked_1 ++ dktX4_asked_2
def dkwX4_asked_0 : List UInt8 := [42, 180, 0, 211, 4, 159, 0, 5, 2, 172, 42, 180, 0, 204, 20, 0, 247, 148, 154, 0, 5, 3, 172, 42]
abbrev dktX4_asked_0 : List UInt8 := dkwX4_asked_0 ++ dktX4_asked_1
theorem dksX4_asked_0 : cX4_asked.data.toList.drop 0 = dktX4_asked_0 := by decide +kernel
theorem dksX4_asked_1 : cX4_asked.data.toList.drop 24 = dktX4_asked_1 := dk_seg dksX4_asked_0 24 rfl rfl
theorem dksX4_asked_2 : cX4_asked.data.toList.drop 48 = dktX4_asked_2 := dk_seg dksX4_asked_1 24 rfl rfl
theorem dksX4_asked_3 : cX4_asked.data.toList.drop 70 = dktX4_asked_3 := dk_seg dksX4_asked_2 22 rfl rfl
theorem dksX4_asked_4 : cX4_asked.data.toList.drop 92 = dktX4_asked_4 := dk_seg dksX4_asked_3 22 rfl rfl
theorem dksX4_asked_5 : cX4_asked.data.toList.drop 116 = dktX4_asked_5 := dk_seg dksX4_asked_4 24 rfl rfl
theorem dksX4_asked_6 : cX4_asked.data.toList.drop 138 = dktX4_asked_6 := dk_seg dksX4_asked_5 22 rfl rfl
theorem dX4_asked_0 : decode cX4_asked 0 = .ok (.aload_n 0, 1) := dk_42 (dk_at dksX4_asked_0 0 rfl rfl)
theorem dX4_asked_1 : decode cX4_asked 1 = .ok (.getfield 211, 3) := dk_180 0 211 (dk_at dksX4_asked_0 1 rfl rfl)
theorem dX4_asked_4 : decode cX4_asked 4 = .ok (.iconst 1, 1) := dk_4 (dk_at dksX4_asked_0 4 rfl rfl)
theorem dX4_asked_5 : decode cX4_asked 5 = .ok (.if_icmp .eq 5, 3) := dk_159 0 5 (dk_at dksX4_asked_0 5 rfl rfl)
theorem dX4_asked_8 : decode cX4_asked 8 = .ok (.iconst (-1), 1) := dk_2 (dk_at dksX4_asked_0 8 rfl rfl)
theorem dX4_asked_9 : decode cX4_asked 9 = .ok (.ireturn, 1) := dk_172 (dk_at dksX4_asked_0 9 rfl rfl)
theorem dX4_asked_10 : decode cX4_asked 10 = .ok (.aload_n 0, 1) := dk_42 (dk_at dksX4_asked_0 10 rfl rfl)
theorem dX4_asked_11 : decode cX4_asked 11 = .ok (.getfield 204, 3) := dk_180 0 204 (dk_at dksX4_asked_0 11 rfl rfl)
theorem dX4_asked_14 : decode cX4_asked 14 = .ok (.ldc2_w 247, 3) := dk_20 0 247 (dk_at dksX4_asked_0 14 rfl rfl)
theorem dX4_asked_17 : decode cX4_asked 17 = .ok (.lcmp, 1) := dk_148 (dk_at dksX4_asked_0 17 rfl rfl)
theorem dX4_asked_18 : decode cX4_asked 18 = .ok (.ifCond .ne 5, 3) := dk_154 0 5 (dk_at dksX4_asked_0 18 rfl rfl)
theorem dX4_asked_21 : decode cX4_asked 21 = .ok (.iconst 0, 1) := dk_3 (dk_at dksX4_asked_0 21 rfl rfl)
theorem dX4_asked_22 : decode cX4_asked 22 = .ok (.ireturn, 1) := dk_172 (dk_at dksX4_asked_0 22 rfl rfl)
theorem dX4_asked_23 : decode cX4_asked 23 = .ok (.aload_n 0, 1) := dk_42 (dk_at dksX4_asked_0 23 rfl rfl)
theorem dX4_asked_24 : decode cX4_asked 24 = .ok (.getfield 204, 3) := dk_180 0 204 (dk_at dksX4_asked_1 0 rfl rfl)
theorem dX4_asked_27 : decode cX4_asked 27 = .ok (.ldc2_w 249, 3) := dk_20 0 249 (dk_at dksX4_asked_1 3 rfl rfl)
theorem dX4_asked_30 : decode cX4_asked 30 = .ok (.lcmp, 1) := dk_148 (dk_at dksX4_asked_1 6 rfl rfl)
theorem dX4_asked_31 : decode cX4_asked 31 = .ok (.ifCond .ne 5, 3) := dk_154 0 5 (dk_at dksX4_asked_1 7 rfl rfl)
theorem dX4_asked_34 : decode cX4_asked 34 = .ok (.iconst 1, 1) := dk_4 (dk_at dksX4_asked_1 10 rfl rfl)
theorem dX4_asked_35 : decode cX4_asked 35 = .ok (.ireturn, 1) := dk_172 (dk_at dksX4_asked_1 11 rfl rfl)
theorem dX4_asked_36 : decode cX4_asked 36 = .ok (.aload_n 0, 1) := dk_42 (dk_at dksX4_asked_1 12 rfl rfl)
theorem dX4_asked_37 : decode cX4_asked 37 = .ok (.getfield 204, 3) := dk_180 0 204 (dk_at dksX4_asked_1 13 rfl rfl)
theorem dX4_asked_40 : decode cX4_asked 40 = .ok (.ldc2_w 235, 3) := dk_20 0 235 (dk_at dksX4_asked_1 16 rfl rfl)
theorem dX4_asked_43 : decode cX4_asked 43 = .ok (.lcmp, 1) := dk_148 (dk_at dksX4_asked_1 19 rfl rfl)
theorem dX4_asked_44 : decode cX4_asked 44 = .ok (.ifCond .ne 5, 3) := dk_154 0 5 (dk_at dksX4_asked_1 20 rfl rfl)
theorem dX4_asked_47 : decode cX4_asked 47 = .ok (.iconst 2, 1) := dk_5 (dk_at dksX4_asked_1 23 rfl rfl)
theorem dX4_asked_48 : decode cX4_asked 48 = .ok (.ireturn, 1) := dk_172 (dk_at dksX4_asked_2 0 rfl rfl)
theorem dX4_asked_49 : decode cX4_asked 49 = .ok (.aload_n 0, 1) := dk_42 (dk_at dksX4_asked_2 1 rfl rfl)
theorem dX4_asked_50 : decode cX4_asked 50 = .ok (.getfield 204, 3) := dk_180 0 204 (dk_at dksX4_asked_2 2 rfl rfl)
theorem dX4_asked_53 : decode cX4_asked 53 = .ok (.ldc2_w 237, 3) := dk_20 0 237 (dk_at dksX4_asked_2 5 rfl rfl)
theorem dX4_asked_56 : decode cX4_asked 56 = .ok (.lcmp, 1) := dk_148 (dk_at dksX4_asked_2 8 rfl rfl)
theorem dX4_asked_57 : decode cX4_asked 57 = .ok (.ifCond .ne 5, 3) := dk_154 0 5 (dk_at dksX4_asked_2 9 rfl rfl)
theorem dX4_asked_60 : decode cX4_asked 60 = .ok (.iconst 3, 1) := dk_6 (dk_at dksX4_asked_2 12 rfl rfl)
theorem dX4_asked_61 : decode cX4_asked 61 = .ok (.ireturn, 1) := dk_172 (dk_at dksX4_asked_2 13 rfl rfl)
theorem dX4_asked_62 : decode cX4_asked 62 = .ok (.aload_n 0, 1) := dk_42 (dk_at dksX4_asked_2 14 rfl rfl)
theorem dX4_asked_63 : decode cX4_asked 63 = .ok (.getfield 204, 3) := dk_180 0 204 (dk_at dksX4_asked_2 15 rfl rfl)
theorem dX4_asked_66 : decode cX4_asked 66 = .ok (.ldc2_w 263, 3) := dk_20 1 7 (dk_at dksX4_asked_2 18 rfl rfl)
theorem dX4_asked_69 : decode cX4_asked 69 = .ok (.lcmp, 1) := dk_148 (dk_at dksX4_asked_2 21 rfl rfl)
theorem dX4_asked_70 : decode cX4_asked 70 = .ok (.ifCond .ne 5, 3) := dk_154 0 5 (dk_at dksX4_asked_3 0 rfl rfl)
theorem dX4_asked_73 : decode cX4_asked 73 = .ok (.iconst 4, 1) := dk_7 (dk_at dksX4_asked_3 3 rfl rfl)
theorem dX4_asked_74 : decode cX4_asked 74 = .ok (.ireturn, 1) := dk_172 (dk_at dksX4_asked_3 4 rfl rfl)
theorem dX4_asked_75 : decode cX4_asked 75 = .ok (.aload_n 0, 1) := dk_42 (dk_at dksX4_asked_3 5 rfl rfl)
theorem dX4_asked_76 : decode cX4_asked 76 = .ok (.getfield 204, 3) := dk_180 0 204 (dk_at dksX4_asked_3 6 rfl rfl)
theorem dX4_asked_79 : decode cX4_asked 79 = .ok (.ldc2_w 265, 3) := dk_20 1 9 (dk_at dksX4_asked_3 9 rfl rfl)
theorem dX4_asked_82 : decode cX4_asked 82 = .ok (.lcmp, 1) := dk_148 (dk_at dksX4_asked_3 12 rfl rfl)
theorem dX4_asked_83 : decode cX4_asked 83 = .ok (.ifCond .ne 5, 3) := dk_154 0 5 (dk_at dksX4_asked_3 13 rfl rfl)
theorem dX4_asked_86 : decode cX4_asked 86 = .ok (.iconst 5, 1) := dk_8 (dk_at dksX4_asked_3 16 rfl rfl)
theorem dX4_asked_87 : decode cX4_asked 87 = .ok (.ireturn, 1) := dk_172 (dk_at dksX4_asked_3 17 rfl rfl)
theorem dX4_asked_88 : decode cX4_asked 88 = .ok (.aload_n 0, 1) := dk_42 (dk_at dksX4_asked_3 18 rfl rfl)
theorem dX4_asked_89 : decode cX4_asked 89 = .ok (.getfield 204, 3) := dk_180 0 204 (dk_at dksX4_asked_3 19 rfl rfl)
theorem dX4_asked_92 : decode cX4_asked 92 = .ok (.ldc2_w 259, 3) := dk_20 1 3 (dk_at dksX4_asked_4 0 rfl rfl)
theorem dX4_asked_95 : decode cX4_asked 95 = .ok (.lcmp, 1) := dk_148 (dk_at dksX4_asked_4 3 rfl rfl)
theorem dX4_asked_96 : decode cX4_asked 96 = .ok (.ifCond .ne 6, 3) := dk_154 0 6 (dk_at dksX4_asked_4 4 rfl rfl)
theorem dX4_asked_99 : decode cX4_asked 99 = .ok (.bipush 6, 2) := dk_16 6 (dk_at dksX4_asked_4 7 rfl rfl)
theorem dX4_asked_101 : decode cX4_asked 101 = .ok (.ireturn, 1) := dk_172 (dk_at dksX4_asked_4 9 rfl rfl)
theorem dX4_asked_102 : decode cX4_asked 102 = .ok (.aload_n 0, 1) := dk_42 (dk_at dksX4_asked_4 10 rfl rfl)
theorem dX4_asked_103 : decode cX4_asked 103 = .ok (.getfield 204, 3) := dk_180 0 204 (dk_at dksX4_asked_4 11 rfl rfl)
theorem dX4_asked_106 : decode cX4_asked 106 = .ok (.ldc2_w 257, 3) := dk_20 1 1 (dk_at dksX4_asked_4 14 rfl rfl)
theorem dX4_asked_109 : decode cX4_asked 109 = .ok (.lcmp, 1) := dk_148 (dk_at dksX4_asked_4 17 rfl rfl)
theorem dX4_asked_110 : decode cX4_asked 110 = .ok (.ifCond .ne 6, 3) := dk_154 0 6 (dk_at dksX4_asked_4 18 rfl rfl)
theorem dX4_asked_113 : decode cX4_asked 113 = .ok (.bipush 7, 2) := dk_16 7 (dk_at dksX4_asked_4 21 rfl rfl)
theorem dX4_asked_115 : decode cX4_asked 115 = .ok (.ireturn, 1) := dk_172 (dk_at dksX4_asked_4 23 rfl rfl)
theorem dX4_asked_116 : decode cX4_asked 116 = .ok (.aload_n 0, 1) := dk_42 (dk_at dksX4_asked_5 0 rfl rfl)
theorem dX4_asked_117 : decode cX4_asked 117 = .ok (.getfield 204, 3) := dk_180 0 204 (dk_at dksX4_asked_5 1 rfl rfl)
theorem dX4_asked_120 : decode cX4_asked 120 = .ok (.ldc2_w 267, 3) := dk_20 1 11 (dk_at dksX4_asked_5 4 rfl rfl)
theorem dX4_asked_123 : decode cX4_asked 123 = .ok (.lcmp, 1) := dk_148 (dk_at dksX4_asked_5 7 rfl rfl)
theorem dX4_asked_124 : decode cX4_asked 124 = .ok (.ifCond .ne 6, 3) := dk_154 0 6 (dk_at dksX4_asked_5 8 rfl rfl)
theorem dX4_asked_127 : decode cX4_asked 127 = .ok (.bipush 8, 2) := dk_16 8 (dk_at dksX4_asked_5 11 rfl rfl)
theorem dX4_asked_129 : decode cX4_asked 129 = .ok (.ireturn, 1) := dk_172 (dk_at dksX4_asked_5 13 rfl rfl)
theorem dX4_asked_130 : decode cX4_asked 130 = .ok (.aload_n 0, 1) := dk_42 (dk_at dksX4_asked_5 14 rfl rfl)
theorem dX4_asked_131 : decode cX4_asked 131 = .ok (.getfield 204, 3) := dk_180 0 204 (dk_at dksX4_asked_5 15 rfl rfl)
theorem dX4_asked_134 : decode cX4_asked 134 = .ok (.ldc2_w 231, 3) := dk_20 0 231 (dk_at dksX4_asked_5 18 rfl rfl)
theorem dX4_asked_137 : decode cX4_asked 137 = .ok (.lcmp, 1) := dk_148 (dk_at dksX4_asked_5 21 rfl rfl)
theorem dX4_asked_138 : decode cX4_asked 138 = .ok (.ifCond .ne 8, 3) := dk_154 0 8 (dk_at dksX4_asked_6 0 rfl rfl)
theorem dX4_asked_141 : decode cX4_asked 141 = .ok (.bipush 9, 2) := dk_16 9 (dk_at dksX4_asked_6 3 rfl rfl)
theorem dX4_asked_143 : decode cX4_asked 143 = .ok (.goto 4, 3) := dk_167 0 4 (dk_at dksX4_asked_6 5 rfl rfl)
theorem dX4_asked_146 : decode cX4_asked 146 = .ok (.iconst (-1), 1) := dk_2 (dk_at dksX4_asked_6 8 rfl rfl)
theorem dX4_asked_147 : decode cX4_asked 147 = .ok (.ireturn, 1) := dk_172 (dk_at dksX4_asked_6 9 rfl rfl)
abbrev cX4_add : ByteArray := prog_23_method_19_code
def yX4_add : MethodName := ⟨RX4, "add", "(II)V"⟩
def dkwX4_add_2 : List UInt8 := [42, 180, 0, 23, 42, 180, 1, 45, 92, 46, 4, 96, 79, 177]
abbrev dktX4_add_2 : List UInt8 := dkwX4_add_2 ++ []
def dkwX4_add_1 : List UInt8 := [42, 180, 0, 20, 17, 1, 64, 42, 180, 1, 45, 104, 42, 180, 0, 23, 42, 180, 1, 45, 46, 96, 28, 79]
abbrev dktX4_add_1 : List UInt8 := dkwX4_add_1 ++ dktX4_add_2
def dkwX4_add_0 : List UInt8 := [42, 180, 0, 17, 17, 1, 64, 42, 180, 1, 45, 104, 42, 180, 0, 23, 42, 180, 1, 45, 46, 96, 27, 79]
abbrev dktX4_add_0 : List UInt8 := dkwX4_add_0 ++ dktX4_add_1
theorem dksX4_add_0 : cX4_add.data.toList.drop 0 = dktX4_add_0 := by decide +kernel
theorem dksX4_add_1 : cX4_add.data.toList.drop 24 = dktX4_add_1 := dk_seg dksX4_add_0 24 rfl rfl
theorem dksX4_add_2 : cX4_add.data.toList.drop 48 = dktX4_add_2 := dk_seg dksX4_add_1 24 rfl rfl
theorem dX4_add_0 : decode cX4_add 0 = .ok (.aload_n 0, 1) := dk_42 (dk_at dksX4_add_0 0 rfl rfl)
theorem dX4_add_1 : decode cX4_add 1 = .ok (.getfield 17, 3) := dk_180 0 17 (dk_at dksX4_add_0 1 rfl rfl)
theorem dX4_add_4 : decode cX4_add 4 = .ok (.sipush 320, 3) := dk_17 1 64 (dk_at dksX4_add_0 4 rfl rfl)
theorem dX4_add_7 : decode cX4_add 7 = .ok (.aload_n 0, 1) := dk_42 (dk_at dksX4_add_0 7 rfl rfl)
theorem dX4_add_8 : decode cX4_add 8 = .ok (.getfield 301, 3) := dk_180 1 45 (dk_at dksX4_add_0 8 rfl rfl)
theorem dX4_add_11 : decode cX4_add 11 = .ok (.imul, 1) := dk_104 (dk_at dksX4_add_0 11 rfl rfl)
theorem dX4_add_12 : decode cX4_add 12 = .ok (.aload_n 0, 1) := dk_42 (dk_at dksX4_add_0 12 rfl rfl)
theorem dX4_add_13 : decode cX4_add 13 = .ok (.getfield 23, 3) := dk_180 0 23 (dk_at dksX4_add_0 13 rfl rfl)
theorem dX4_add_16 : decode cX4_add 16 = .ok (.aload_n 0, 1) := dk_42 (dk_at dksX4_add_0 16 rfl rfl)
theorem dX4_add_17 : decode cX4_add 17 = .ok (.getfield 301, 3) := dk_180 1 45 (dk_at dksX4_add_0 17 rfl rfl)
theorem dX4_add_20 : decode cX4_add 20 = .ok (.iaload, 1) := dk_46 (dk_at dksX4_add_0 20 rfl rfl)
theorem dX4_add_21 : decode cX4_add 21 = .ok (.iadd, 1) := dk_96 (dk_at dksX4_add_0 21 rfl rfl)
theorem dX4_add_22 : decode cX4_add 22 = .ok (.iload_n 1, 1) := dk_27 (dk_at dksX4_add_0 22 rfl rfl)
theorem dX4_add_23 : decode cX4_add 23 = .ok (.iastore, 1) := dk_79 (dk_at dksX4_add_0 23 rfl rfl)
theorem dX4_add_24 : decode cX4_add 24 = .ok (.aload_n 0, 1) := dk_42 (dk_at dksX4_add_1 0 rfl rfl)
theorem dX4_add_25 : decode cX4_add 25 = .ok (.getfield 20, 3) := dk_180 0 20 (dk_at dksX4_add_1 1 rfl rfl)
theorem dX4_add_28 : decode cX4_add 28 = .ok (.sipush 320, 3) := dk_17 1 64 (dk_at dksX4_add_1 4 rfl rfl)
theorem dX4_add_31 : decode cX4_add 31 = .ok (.aload_n 0, 1) := dk_42 (dk_at dksX4_add_1 7 rfl rfl)
theorem dX4_add_32 : decode cX4_add 32 = .ok (.getfield 301, 3) := dk_180 1 45 (dk_at dksX4_add_1 8 rfl rfl)
theorem dX4_add_35 : decode cX4_add 35 = .ok (.imul, 1) := dk_104 (dk_at dksX4_add_1 11 rfl rfl)
theorem dX4_add_36 : decode cX4_add 36 = .ok (.aload_n 0, 1) := dk_42 (dk_at dksX4_add_1 12 rfl rfl)
theorem dX4_add_37 : decode cX4_add 37 = .ok (.getfield 23, 3) := dk_180 0 23 (dk_at dksX4_add_1 13 rfl rfl)
theorem dX4_add_40 : decode cX4_add 40 = .ok (.aload_n 0, 1) := dk_42 (dk_at dksX4_add_1 16 rfl rfl)
theorem dX4_add_41 : decode cX4_add 41 = .ok (.getfield 301, 3) := dk_180 1 45 (dk_at dksX4_add_1 17 rfl rfl)
theorem dX4_add_44 : decode cX4_add 44 = .ok (.iaload, 1) := dk_46 (dk_at dksX4_add_1 20 rfl rfl)
theorem dX4_add_45 : decode cX4_add 45 = .ok (.iadd, 1) := dk_96 (dk_at dksX4_add_1 21 rfl rfl)
theorem dX4_add_46 : decode cX4_add 46 = .ok (.iload_n 2, 1) := dk_28 (dk_at dksX4_add_1 22 rfl rfl)
theorem dX4_add_47 : decode cX4_add 47 = .ok (.iastore, 1) := dk_79 (dk_at dksX4_add_1 23 rfl rfl)
theorem dX4_add_48 : decode cX4_add 48 = .ok (.aload_n 0, 1) := dk_42 (dk_at dksX4_add_2 0 rfl rfl)
theorem dX4_add_49 : decode cX4_add 49 = .ok (.getfield 23, 3) := dk_180 0 23 (dk_at dksX4_add_2 1 rfl rfl)
theorem dX4_add_52 : decode cX4_add 52 = .ok (.aload_n 0, 1) := dk_42 (dk_at dksX4_add_2 4 rfl rfl)
theorem dX4_add_53 : decode cX4_add 53 = .ok (.getfield 301, 3) := dk_180 1 45 (dk_at dksX4_add_2 5 rfl rfl)
theorem dX4_add_56 : decode cX4_add 56 = .ok (.dup2, 1) := dk_92 (dk_at dksX4_add_2 8 rfl rfl)
theorem dX4_add_57 : decode cX4_add 57 = .ok (.iaload, 1) := dk_46 (dk_at dksX4_add_2 9 rfl rfl)
theorem dX4_add_58 : decode cX4_add 58 = .ok (.iconst 1, 1) := dk_4 (dk_at dksX4_add_2 10 rfl rfl)
theorem dX4_add_59 : decode cX4_add 59 = .ok (.iadd, 1) := dk_96 (dk_at dksX4_add_2 11 rfl rfl)
theorem dX4_add_60 : decode cX4_add 60 = .ok (.iastore, 1) := dk_79 (dk_at dksX4_add_2 12 rfl rfl)
theorem dX4_add_61 : decode cX4_add 61 = .ok (.return_, 1) := dk_177 (dk_at dksX4_add_2 13 rfl rfl)
abbrev cX4_sign : ByteArray := prog_23_method_29_code
def yX4_sign : MethodName := ⟨RX4, "sign", "()I"⟩
def dkwX4_sign_4 : List UInt8 := [180, 0, 211, 16, 37, 160, 0, 10, 42, 180, 0, 211, 167, 0, 4, 3, 172]
abbrev dktX4_sign_4 : List UInt8 := dkwX4_sign_4 ++ []
def dkwX4_sign_3 : List UInt8 := [159, 0, 30, 42, 180, 0, 211, 16, 42, 159, 0, 21, 42, 180, 0, 211, 16, 47, 159, 0, 12, 42]
abbrev dktX4_sign_3 : List UInt8 := dkwX4_sign_3 ++ dktX4_sign_4
def dkwX4_sign_2 : List UInt8 := [180, 0, 211, 16, 61, 159, 0, 48, 42, 180, 0, 211, 16, 43, 159, 0, 39, 42, 180, 0, 211, 16, 45]
abbrev dktX4_sign_2 : List UInt8 := dkwX4_sign_2 ++ dktX4_sign_3
def dkwX4_sign_1 : List UInt8 := [16, 124, 172, 42, 180, 0, 211, 16, 60, 159, 0, 66, 42, 180, 0, 211, 16, 62, 159, 0, 57, 42]
abbrev dktX4_sign_1 : List UInt8 := dkwX4_sign_1 ++ dktX4_sign_2
def dkwX4_sign_0 : List UInt8 := [42, 20, 1, 17, 182, 1, 27, 153, 0, 6, 16, 38, 172, 42, 20, 1, 19, 182, 1, 27, 153, 0, 6]
abbrev dktX4_sign_0 : List UInt8 := dkwX4_sign_0 ++ dktX4_sign_1
theorem dksX4_sign_0 : cX4_sign.data.toList.drop 0 = dktX4_sign_0 := by decide +kernel
theorem dksX4_sign_1 : cX4_sign.data.toList.drop 23 = dktX4_sign_1 := dk_seg dksX4_sign_0 23 rfl rfl
theorem dksX4_sign_2 : cX4_sign.data.toList.drop 45 = dktX4_sign_2 := dk_seg dksX4_sign_1 22 rfl rfl
theorem dksX4_sign_3 : cX4_sign.data.toList.drop 68 = dktX4_sign_3 := dk_seg dksX4_sign_2 23 rfl rfl
theorem dksX4_sign_4 : cX4_sign.data.toList.drop 90 = dktX4_sign_4 := dk_seg dksX4_sign_3 22 rfl rfl
theorem dX4_sign_0 : decode cX4_sign 0 = .ok (.aload_n 0, 1) := dk_42 (dk_at dksX4_sign_0 0 rfl rfl)
theorem dX4_sign_1 : decode cX4_sign 1 = .ok (.ldc2_w 273, 3) := dk_20 1 17 (dk_at dksX4_sign_0 1 rfl rfl)
theorem dX4_sign_4 : decode cX4_sign 4 = .ok (.invokevirtual 283, 3) := dk_182 1 27 (dk_at dksX4_sign_0 4 rfl rfl)
theorem dX4_sign_7 : decode cX4_sign 7 = .ok (.ifCond .eq 6, 3) := dk_153 0 6 (dk_at dksX4_sign_0 7 rfl rfl)
theorem dX4_sign_10 : decode cX4_sign 10 = .ok (.bipush 38, 2) := dk_16 38 (dk_at dksX4_sign_0 10 rfl rfl)
theorem dX4_sign_12 : decode cX4_sign 12 = .ok (.ireturn, 1) := dk_172 (dk_at dksX4_sign_0 12 rfl rfl)
theorem dX4_sign_13 : decode cX4_sign 13 = .ok (.aload_n 0, 1) := dk_42 (dk_at dksX4_sign_0 13 rfl rfl)
theorem dX4_sign_14 : decode cX4_sign 14 = .ok (.ldc2_w 275, 3) := dk_20 1 19 (dk_at dksX4_sign_0 14 rfl rfl)
theorem dX4_sign_17 : decode cX4_sign 17 = .ok (.invokevirtual 283, 3) := dk_182 1 27 (dk_at dksX4_sign_0 17 rfl rfl)
theorem dX4_sign_20 : decode cX4_sign 20 = .ok (.ifCond .eq 6, 3) := dk_153 0 6 (dk_at dksX4_sign_0 20 rfl rfl)
theorem dX4_sign_23 : decode cX4_sign 23 = .ok (.bipush 124, 2) := dk_16 124 (dk_at dksX4_sign_1 0 rfl rfl)
theorem dX4_sign_25 : decode cX4_sign 25 = .ok (.ireturn, 1) := dk_172 (dk_at dksX4_sign_1 2 rfl rfl)
theorem dX4_sign_26 : decode cX4_sign 26 = .ok (.aload_n 0, 1) := dk_42 (dk_at dksX4_sign_1 3 rfl rfl)
theorem dX4_sign_27 : decode cX4_sign 27 = .ok (.getfield 211, 3) := dk_180 0 211 (dk_at dksX4_sign_1 4 rfl rfl)
theorem dX4_sign_30 : decode cX4_sign 30 = .ok (.bipush 60, 2) := dk_16 60 (dk_at dksX4_sign_1 7 rfl rfl)
theorem dX4_sign_32 : decode cX4_sign 32 = .ok (.if_icmp .eq 66, 3) := dk_159 0 66 (dk_at dksX4_sign_1 9 rfl rfl)
theorem dX4_sign_35 : decode cX4_sign 35 = .ok (.aload_n 0, 1) := dk_42 (dk_at dksX4_sign_1 12 rfl rfl)
theorem dX4_sign_36 : decode cX4_sign 36 = .ok (.getfield 211, 3) := dk_180 0 211 (dk_at dksX4_sign_1 13 rfl rfl)
theorem dX4_sign_39 : decode cX4_sign 39 = .ok (.bipush 62, 2) := dk_16 62 (dk_at dksX4_sign_1 16 rfl rfl)
theorem dX4_sign_41 : decode cX4_sign 41 = .ok (.if_icmp .eq 57, 3) := dk_159 0 57 (dk_at dksX4_sign_1 18 rfl rfl)
theorem dX4_sign_44 : decode cX4_sign 44 = .ok (.aload_n 0, 1) := dk_42 (dk_at dksX4_sign_1 21 rfl rfl)
theorem dX4_sign_45 : decode cX4_sign 45 = .ok (.getfield 211, 3) := dk_180 0 211 (dk_at dksX4_sign_2 0 rfl rfl)
theorem dX4_sign_48 : decode cX4_sign 48 = .ok (.bipush 61, 2) := dk_16 61 (dk_at dksX4_sign_2 3 rfl rfl)
theorem dX4_sign_50 : decode cX4_sign 50 = .ok (.if_icmp .eq 48, 3) := dk_159 0 48 (dk_at dksX4_sign_2 5 rfl rfl)
theorem dX4_sign_53 : decode cX4_sign 53 = .ok (.aload_n 0, 1) := dk_42 (dk_at dksX4_sign_2 8 rfl rfl)
theorem dX4_sign_54 : decode cX4_sign 54 = .ok (.getfield 211, 3) := dk_180 0 211 (dk_at dksX4_sign_2 9 rfl rfl)
theorem dX4_sign_57 : decode cX4_sign 57 = .ok (.bipush 43, 2) := dk_16 43 (dk_at dksX4_sign_2 12 rfl rfl)
theorem dX4_sign_59 : decode cX4_sign 59 = .ok (.if_icmp .eq 39, 3) := dk_159 0 39 (dk_at dksX4_sign_2 14 rfl rfl)
theorem dX4_sign_62 : decode cX4_sign 62 = .ok (.aload_n 0, 1) := dk_42 (dk_at dksX4_sign_2 17 rfl rfl)
theorem dX4_sign_63 : decode cX4_sign 63 = .ok (.getfield 211, 3) := dk_180 0 211 (dk_at dksX4_sign_2 18 rfl rfl)
theorem dX4_sign_66 : decode cX4_sign 66 = .ok (.bipush 45, 2) := dk_16 45 (dk_at dksX4_sign_2 21 rfl rfl)
theorem dX4_sign_68 : decode cX4_sign 68 = .ok (.if_icmp .eq 30, 3) := dk_159 0 30 (dk_at dksX4_sign_3 0 rfl rfl)
theorem dX4_sign_71 : decode cX4_sign 71 = .ok (.aload_n 0, 1) := dk_42 (dk_at dksX4_sign_3 3 rfl rfl)
theorem dX4_sign_72 : decode cX4_sign 72 = .ok (.getfield 211, 3) := dk_180 0 211 (dk_at dksX4_sign_3 4 rfl rfl)
theorem dX4_sign_75 : decode cX4_sign 75 = .ok (.bipush 42, 2) := dk_16 42 (dk_at dksX4_sign_3 7 rfl rfl)
theorem dX4_sign_77 : decode cX4_sign 77 = .ok (.if_icmp .eq 21, 3) := dk_159 0 21 (dk_at dksX4_sign_3 9 rfl rfl)
theorem dX4_sign_80 : decode cX4_sign 80 = .ok (.aload_n 0, 1) := dk_42 (dk_at dksX4_sign_3 12 rfl rfl)
theorem dX4_sign_81 : decode cX4_sign 81 = .ok (.getfield 211, 3) := dk_180 0 211 (dk_at dksX4_sign_3 13 rfl rfl)
theorem dX4_sign_84 : decode cX4_sign 84 = .ok (.bipush 47, 2) := dk_16 47 (dk_at dksX4_sign_3 16 rfl rfl)
theorem dX4_sign_86 : decode cX4_sign 86 = .ok (.if_icmp .eq 12, 3) := dk_159 0 12 (dk_at dksX4_sign_3 18 rfl rfl)
theorem dX4_sign_89 : decode cX4_sign 89 = .ok (.aload_n 0, 1) := dk_42 (dk_at dksX4_sign_3 21 rfl rfl)
theorem dX4_sign_90 : decode cX4_sign 90 = .ok (.getfield 211, 3) := dk_180 0 211 (dk_at dksX4_sign_4 0 rfl rfl)
theorem dX4_sign_93 : decode cX4_sign 93 = .ok (.bipush 37, 2) := dk_16 37 (dk_at dksX4_sign_4 3 rfl rfl)
theorem dX4_sign_95 : decode cX4_sign 95 = .ok (.if_icmp .ne 10, 3) := dk_160 0 10 (dk_at dksX4_sign_4 5 rfl rfl)
theorem dX4_sign_98 : decode cX4_sign 98 = .ok (.aload_n 0, 1) := dk_42 (dk_at dksX4_sign_4 8 rfl rfl)
theorem dX4_sign_99 : decode cX4_sign 99 = .ok (.getfield 211, 3) := dk_180 0 211 (dk_at dksX4_sign_4 9 rfl rfl)
theorem dX4_sign_102 : decode cX4_sign 102 = .ok (.goto 4, 3) := dk_167 0 4 (dk_at dksX4_sign_4 12 rfl rfl)
theorem dX4_sign_105 : decode cX4_sign 105 = .ok (.iconst 0, 1) := dk_3 (dk_at dksX4_sign_4 15 rfl rfl)
theorem dX4_sign_106 : decode cX4_sign 106 = .ok (.ireturn, 1) := dk_172 (dk_at dksX4_sign_4 16 rfl rfl)
abbrev cX4_hasBracket : ByteArray := prog_23_method_30_code
def yX4_hasBracket : MethodName := ⟨RX4, "hasBracket", "()Z"⟩
def dkwX4_hasBracket_1 : List UInt8 := [160, 0, 7, 4, 167, 0, 4, 3, 60, 132, 2, 1, 167, 255, 224, 27, 172]
abbrev dktX4_hasBracket_1 : List UInt8 := dkwX4_hasBracket_1 ++ []
def dkwX4_hasBracket_0 : List UInt8 := [3, 60, 3, 61, 28, 42, 180, 1, 48, 162, 0, 30, 27, 154, 0, 14, 42, 180, 0, 35, 28, 46, 16, 20]
abbrev dktX4_hasBracket_0 : List UInt8 := dkwX4_hasBracket_0 ++ dktX4_hasBracket_1
theorem dksX4_hasBracket_0 : cX4_hasBracket.data.toList.drop 0 = dktX4_hasBracket_0 := by decide +kernel
theorem dksX4_hasBracket_1 : cX4_hasBracket.data.toList.drop 24 = dktX4_hasBracket_1 := dk_seg dksX4_hasBracket_0 24 rfl rfl
theorem dX4_hasBracket_0 : decode cX4_hasBracket 0 = .ok (.iconst 0, 1) := dk_3 (dk_at dksX4_hasBracket_0 0 rfl rfl)
theorem dX4_hasBracket_1 : decode cX4_hasBracket 1 = .ok (.istore_n 1, 1) := dk_60 (dk_at dksX4_hasBracket_0 1 rfl rfl)
theorem dX4_hasBracket_2 : decode cX4_hasBracket 2 = .ok (.iconst 0, 1) := dk_3 (dk_at dksX4_hasBracket_0 2 rfl rfl)
theorem dX4_hasBracket_3 : decode cX4_hasBracket 3 = .ok (.istore_n 2, 1) := dk_61 (dk_at dksX4_hasBracket_0 3 rfl rfl)
theorem dX4_hasBracket_4 : decode cX4_hasBracket 4 = .ok (.iload_n 2, 1) := dk_28 (dk_at dksX4_hasBracket_0 4 rfl rfl)
theorem dX4_hasBracket_5 : decode cX4_hasBracket 5 = .ok (.aload_n 0, 1) := dk_42 (dk_at dksX4_hasBracket_0 5 rfl rfl)
theorem dX4_hasBracket_6 : decode cX4_hasBracket 6 = .ok (.getfield 304, 3) := dk_180 1 48 (dk_at dksX4_hasBracket_0 6 rfl rfl)
theorem dX4_hasBracket_9 : decode cX4_hasBracket 9 = .ok (.if_icmp .ge 30, 3) := dk_162 0 30 (dk_at dksX4_hasBracket_0 9 rfl rfl)
theorem dX4_hasBracket_12 : decode cX4_hasBracket 12 = .ok (.iload_n 1, 1) := dk_27 (dk_at dksX4_hasBracket_0 12 rfl rfl)
theorem dX4_hasBracket_13 : decode cX4_hasBracket 13 = .ok (.ifCond .ne 14, 3) := dk_154 0 14 (dk_at dksX4_hasBracket_0 13 rfl rfl)
theorem dX4_hasBracket_16 : decode cX4_hasBracket 16 = .ok (.aload_n 0, 1) := dk_42 (dk_at dksX4_hasBracket_0 16 rfl rfl)
theorem dX4_hasBracket_17 : decode cX4_hasBracket 17 = .ok (.getfield 35, 3) := dk_180 0 35 (dk_at dksX4_hasBracket_0 17 rfl rfl)
theorem dX4_hasBracket_20 : decode cX4_hasBracket 20 = .ok (.iload_n 2, 1) := dk_28 (dk_at dksX4_hasBracket_0 20 rfl rfl)
theorem dX4_hasBracket_21 : decode cX4_hasBracket 21 = .ok (.iaload, 1) := dk_46 (dk_at dksX4_hasBracket_0 21 rfl rfl)
theorem dX4_hasBracket_22 : decode cX4_hasBracket 22 = .ok (.bipush 20, 2) := dk_16 20 (dk_at dksX4_hasBracket_0 22 rfl rfl)
theorem dX4_hasBracket_24 : decode cX4_hasBracket 24 = .ok (.if_icmp .ne 7, 3) := dk_160 0 7 (dk_at dksX4_hasBracket_1 0 rfl rfl)
theorem dX4_hasBracket_27 : decode cX4_hasBracket 27 = .ok (.iconst 1, 1) := dk_4 (dk_at dksX4_hasBracket_1 3 rfl rfl)
theorem dX4_hasBracket_28 : decode cX4_hasBracket 28 = .ok (.goto 4, 3) := dk_167 0 4 (dk_at dksX4_hasBracket_1 4 rfl rfl)
theorem dX4_hasBracket_31 : decode cX4_hasBracket 31 = .ok (.iconst 0, 1) := dk_3 (dk_at dksX4_hasBracket_1 7 rfl rfl)
theorem dX4_hasBracket_32 : decode cX4_hasBracket 32 = .ok (.istore_n 1, 1) := dk_60 (dk_at dksX4_hasBracket_1 8 rfl rfl)
theorem dX4_hasBracket_33 : decode cX4_hasBracket 33 = .ok (.iinc 2 1, 3) := dk_132 2 1 (dk_at dksX4_hasBracket_1 9 rfl rfl)
theorem dX4_hasBracket_36 : decode cX4_hasBracket 36 = .ok (.goto (-32), 3) := dk_167 255 224 (dk_at dksX4_hasBracket_1 12 rfl rfl)
theorem dX4_hasBracket_39 : decode cX4_hasBracket 39 = .ok (.iload_n 1, 1) := dk_27 (dk_at dksX4_hasBracket_1 15 rfl rfl)
theorem dX4_hasBracket_40 : decode cX4_hasBracket 40 = .ok (.ireturn, 1) := dk_172 (dk_at dksX4_hasBracket_1 16 rfl rfl)
abbrev cX4_close : ByteArray := prog_23_method_21_code
def yX4_close : MethodName := ⟨RX4, "close", "(I)V"⟩
def dkwX4_close_4 : List UInt8 := [182, 1, 54, 167, 255, 158, 177]
abbrev dktX4_close_4 : List UInt8 := dkwX4_close_4 ++ []
def dkwX4_close_3 : List UInt8 := [89, 180, 1, 58, 4, 100, 181, 1, 58, 167, 255, 175, 42, 6, 42, 180, 0, 35, 42, 180, 1, 48, 46]
abbrev dktX4_close_3 : List UInt8 := dkwX4_close_3 ++ dktX4_close_4
def dkwX4_close_2 : List UInt8 := [181, 1, 48, 42, 180, 0, 35, 42, 180, 1, 48, 46, 16, 21, 160, 0, 22, 42, 5, 3, 182, 1, 54, 42]
abbrev dktX4_close_2 : List UInt8 := dkwX4_close_2 ++ dktX4_close_3
def dkwX4_close_1 : List UInt8 := [180, 0, 35, 42, 180, 1, 48, 4, 100, 46, 184, 1, 51, 27, 161, 0, 63, 42, 89, 180, 1, 48, 4, 100]
abbrev dktX4_close_1 : List UInt8 := dkwX4_close_1 ++ dktX4_close_2
def dkwX4_close_0 : List UInt8 := [42, 180, 1, 48, 158, 0, 97, 42, 180, 0, 35, 42, 180, 1, 48, 4, 100, 46, 16, 20, 159, 0, 81, 42]
abbrev dktX4_close_0 : List UInt8 := dkwX4_close_0 ++ dktX4_close_1
theorem dksX4_close_0 : cX4_close.data.toList.drop 0 = dktX4_close_0 := by decide +kernel
theorem dksX4_close_1 : cX4_close.data.toList.drop 24 = dktX4_close_1 := dk_seg dksX4_close_0 24 rfl rfl
theorem dksX4_close_2 : cX4_close.data.toList.drop 48 = dktX4_close_2 := dk_seg dksX4_close_1 24 rfl rfl
theorem dksX4_close_3 : cX4_close.data.toList.drop 72 = dktX4_close_3 := dk_seg dksX4_close_2 24 rfl rfl
theorem dksX4_close_4 : cX4_close.data.toList.drop 95 = dktX4_close_4 := dk_seg dksX4_close_3 23 rfl rfl
theorem dX4_close_0 : decode cX4_close 0 = .ok (.aload_n 0, 1) := dk_42 (dk_at dksX4_close_0 0 rfl rfl)
theorem dX4_close_1 : decode cX4_close 1 = .ok (.getfield 304, 3) := dk_180 1 48 (dk_at dksX4_close_0 1 rfl rfl)
theorem dX4_close_4 : decode cX4_close 4 = .ok (.ifCond .le 97, 3) := dk_158 0 97 (dk_at dksX4_close_0 4 rfl rfl)
theorem dX4_close_7 : decode cX4_close 7 = .ok (.aload_n 0, 1) := dk_42 (dk_at dksX4_close_0 7 rfl rfl)
theorem dX4_close_8 : decode cX4_close 8 = .ok (.getfield 35, 3) := dk_180 0 35 (dk_at dksX4_close_0 8 rfl rfl)
theorem dX4_close_11 : decode cX4_close 11 = .ok (.aload_n 0, 1) := dk_42 (dk_at dksX4_close_0 11 rfl rfl)
theorem dX4_close_12 : decode cX4_close 12 = .ok (.getfield 304, 3) := dk_180 1 48 (dk_at dksX4_close_0 12 rfl rfl)
theorem dX4_close_15 : decode cX4_close 15 = .ok (.iconst 1, 1) := dk_4 (dk_at dksX4_close_0 15 rfl rfl)
theorem dX4_close_16 : decode cX4_close 16 = .ok (.isub, 1) := dk_100 (dk_at dksX4_close_0 16 rfl rfl)
theorem dX4_close_17 : decode cX4_close 17 = .ok (.iaload, 1) := dk_46 (dk_at dksX4_close_0 17 rfl rfl)
theorem dX4_close_18 : decode cX4_close 18 = .ok (.bipush 20, 2) := dk_16 20 (dk_at dksX4_close_0 18 rfl rfl)
theorem dX4_close_20 : decode cX4_close 20 = .ok (.if_icmp .eq 81, 3) := dk_159 0 81 (dk_at dksX4_close_0 20 rfl rfl)
theorem dX4_close_23 : decode cX4_close 23 = .ok (.aload_n 0, 1) := dk_42 (dk_at dksX4_close_0 23 rfl rfl)
theorem dX4_close_24 : decode cX4_close 24 = .ok (.getfield 35, 3) := dk_180 0 35 (dk_at dksX4_close_1 0 rfl rfl)
theorem dX4_close_27 : decode cX4_close 27 = .ok (.aload_n 0, 1) := dk_42 (dk_at dksX4_close_1 3 rfl rfl)
theorem dX4_close_28 : decode cX4_close 28 = .ok (.getfield 304, 3) := dk_180 1 48 (dk_at dksX4_close_1 4 rfl rfl)
theorem dX4_close_31 : decode cX4_close 31 = .ok (.iconst 1, 1) := dk_4 (dk_at dksX4_close_1 7 rfl rfl)
theorem dX4_close_32 : decode cX4_close 32 = .ok (.isub, 1) := dk_100 (dk_at dksX4_close_1 8 rfl rfl)
theorem dX4_close_33 : decode cX4_close 33 = .ok (.iaload, 1) := dk_46 (dk_at dksX4_close_1 9 rfl rfl)
theorem dX4_close_34 : decode cX4_close 34 = .ok (.invokestatic 307, 3) := dk_184 1 51 (dk_at dksX4_close_1 10 rfl rfl)
theorem dX4_close_37 : decode cX4_close 37 = .ok (.iload_n 1, 1) := dk_27 (dk_at dksX4_close_1 13 rfl rfl)
theorem dX4_close_38 : decode cX4_close 38 = .ok (.if_icmp .lt 63, 3) := dk_161 0 63 (dk_at dksX4_close_1 14 rfl rfl)
theorem dX4_close_41 : decode cX4_close 41 = .ok (.aload_n 0, 1) := dk_42 (dk_at dksX4_close_1 17 rfl rfl)
theorem dX4_close_42 : decode cX4_close 42 = .ok (.dup, 1) := dk_89 (dk_at dksX4_close_1 18 rfl rfl)
theorem dX4_close_43 : decode cX4_close 43 = .ok (.getfield 304, 3) := dk_180 1 48 (dk_at dksX4_close_1 19 rfl rfl)
theorem dX4_close_46 : decode cX4_close 46 = .ok (.iconst 1, 1) := dk_4 (dk_at dksX4_close_1 22 rfl rfl)
theorem dX4_close_47 : decode cX4_close 47 = .ok (.isub, 1) := dk_100 (dk_at dksX4_close_1 23 rfl rfl)
theorem dX4_close_48 : decode cX4_close 48 = .ok (.putfield 304, 3) := dk_181 1 48 (dk_at dksX4_close_2 0 rfl rfl)
theorem dX4_close_51 : decode cX4_close 51 = .ok (.aload_n 0, 1) := dk_42 (dk_at dksX4_close_2 3 rfl rfl)
theorem dX4_close_52 : decode cX4_close 52 = .ok (.getfield 35, 3) := dk_180 0 35 (dk_at dksX4_close_2 4 rfl rfl)
theorem dX4_close_55 : decode cX4_close 55 = .ok (.aload_n 0, 1) := dk_42 (dk_at dksX4_close_2 7 rfl rfl)
theorem dX4_close_56 : decode cX4_close 56 = .ok (.getfield 304, 3) := dk_180 1 48 (dk_at dksX4_close_2 8 rfl rfl)
theorem dX4_close_59 : decode cX4_close 59 = .ok (.iaload, 1) := dk_46 (dk_at dksX4_close_2 11 rfl rfl)
theorem dX4_close_60 : decode cX4_close 60 = .ok (.bipush 21, 2) := dk_16 21 (dk_at dksX4_close_2 12 rfl rfl)
theorem dX4_close_62 : decode cX4_close 62 = .ok (.if_icmp .ne 22, 3) := dk_160 0 22 (dk_at dksX4_close_2 14 rfl rfl)
theorem dX4_close_65 : decode cX4_close 65 = .ok (.aload_n 0, 1) := dk_42 (dk_at dksX4_close_2 17 rfl rfl)
theorem dX4_close_66 : decode cX4_close 66 = .ok (.iconst 2, 1) := dk_5 (dk_at dksX4_close_2 18 rfl rfl)
theorem dX4_close_67 : decode cX4_close 67 = .ok (.iconst 0, 1) := dk_3 (dk_at dksX4_close_2 19 rfl rfl)
theorem dX4_close_68 : decode cX4_close 68 = .ok (.invokevirtual 310, 3) := dk_182 1 54 (dk_at dksX4_close_2 20 rfl rfl)
theorem dX4_close_71 : decode cX4_close 71 = .ok (.aload_n 0, 1) := dk_42 (dk_at dksX4_close_2 23 rfl rfl)
theorem dX4_close_72 : decode cX4_close 72 = .ok (.dup, 1) := dk_89 (dk_at dksX4_close_3 0 rfl rfl)
theorem dX4_close_73 : decode cX4_close 73 = .ok (.getfield 314, 3) := dk_180 1 58 (dk_at dksX4_close_3 1 rfl rfl)
theorem dX4_close_76 : decode cX4_close 76 = .ok (.iconst 1, 1) := dk_4 (dk_at dksX4_close_3 4 rfl rfl)
theorem dX4_close_77 : decode cX4_close 77 = .ok (.isub, 1) := dk_100 (dk_at dksX4_close_3 5 rfl rfl)
theorem dX4_close_78 : decode cX4_close 78 = .ok (.putfield 314, 3) := dk_181 1 58 (dk_at dksX4_close_3 6 rfl rfl)
theorem dX4_close_81 : decode cX4_close 81 = .ok (.goto (-81), 3) := dk_167 255 175 (dk_at dksX4_close_3 9 rfl rfl)
theorem dX4_close_84 : decode cX4_close 84 = .ok (.aload_n 0, 1) := dk_42 (dk_at dksX4_close_3 12 rfl rfl)
theorem dX4_close_85 : decode cX4_close 85 = .ok (.iconst 3, 1) := dk_6 (dk_at dksX4_close_3 13 rfl rfl)
theorem dX4_close_86 : decode cX4_close 86 = .ok (.aload_n 0, 1) := dk_42 (dk_at dksX4_close_3 14 rfl rfl)
theorem dX4_close_87 : decode cX4_close 87 = .ok (.getfield 35, 3) := dk_180 0 35 (dk_at dksX4_close_3 15 rfl rfl)
theorem dX4_close_90 : decode cX4_close 90 = .ok (.aload_n 0, 1) := dk_42 (dk_at dksX4_close_3 18 rfl rfl)
theorem dX4_close_91 : decode cX4_close 91 = .ok (.getfield 304, 3) := dk_180 1 48 (dk_at dksX4_close_3 19 rfl rfl)
theorem dX4_close_94 : decode cX4_close 94 = .ok (.iaload, 1) := dk_46 (dk_at dksX4_close_3 22 rfl rfl)
theorem dX4_close_95 : decode cX4_close 95 = .ok (.invokevirtual 310, 3) := dk_182 1 54 (dk_at dksX4_close_4 0 rfl rfl)
theorem dX4_close_98 : decode cX4_close 98 = .ok (.goto (-98), 3) := dk_167 255 158 (dk_at dksX4_close_4 3 rfl rfl)
theorem dX4_close_101 : decode cX4_close 101 = .ok (.return_, 1) := dk_177 (dk_at dksX4_close_4 6 rfl rfl)
abbrev cX4_hasRelation : ByteArray := prog_23_method_22_code
def yX4_hasRelation : MethodName := ⟨RX4, "hasRelation", "()Z"⟩
def dkwX4_hasRelation_3 : List UInt8 := [167, 0, 4, 3, 172]
abbrev dktX4_hasRelation_3 : List UInt8 := dkwX4_hasRelation_3 ++ []
def dkwX4_hasRelation_2 : List UInt8 := [180, 0, 35, 27, 46, 16, 20, 159, 0, 20, 42, 180, 0, 35, 27, 46, 184, 1, 51, 7, 160, 0, 7, 4]
abbrev dktX4_hasRelation_2 : List UInt8 := dkwX4_hasRelation_2 ++ dktX4_hasRelation_3
def dkwX4_hasRelation_1 : List UInt8 := [180, 0, 35, 27, 46, 184, 1, 51, 7, 164, 0, 9, 132, 1, 255, 167, 255, 225, 27, 155, 0, 31, 42]
abbrev dktX4_hasRelation_1 : List UInt8 := dkwX4_hasRelation_1 ++ dktX4_hasRelation_2
def dkwX4_hasRelation_0 : List UInt8 := [42, 180, 1, 48, 4, 100, 60, 27, 155, 0, 33, 42, 180, 0, 35, 27, 46, 16, 20, 159, 0, 22, 42]
abbrev dktX4_hasRelation_0 : List UInt8 := dkwX4_hasRelation_0 ++ dktX4_hasRelation_1
theorem dksX4_hasRelation_0 : cX4_hasRelation.data.toList.drop 0 = dktX4_hasRelation_0 := by decide +kernel
theorem dksX4_hasRelation_1 : cX4_hasRelation.data.toList.drop 23 = dktX4_hasRelation_1 := dk_seg dksX4_hasRelation_0 23 rfl rfl
theorem dksX4_hasRelation_2 : cX4_hasRelation.data.toList.drop 46 = dktX4_hasRelation_2 := dk_seg dksX4_hasRelation_1 23 rfl rfl
theorem dksX4_hasRelation_3 : cX4_hasRelation.data.toList.drop 70 = dktX4_hasRelation_3 := dk_seg dksX4_hasRelation_2 24 rfl rfl
theorem dX4_hasRelation_0 : decode cX4_hasRelation 0 = .ok (.aload_n 0, 1) := dk_42 (dk_at dksX4_hasRelation_0 0 rfl rfl)
theorem dX4_hasRelation_1 : decode cX4_hasRelation 1 = .ok (.getfield 304, 3) := dk_180 1 48 (dk_at dksX4_hasRelation_0 1 rfl rfl)
theorem dX4_hasRelation_4 : decode cX4_hasRelation 4 = .ok (.iconst 1, 1) := dk_4 (dk_at dksX4_hasRelation_0 4 rfl rfl)
theorem dX4_hasRelation_5 : decode cX4_hasRelation 5 = .ok (.isub, 1) := dk_100 (dk_at dksX4_hasRelation_0 5 rfl rfl)
theorem dX4_hasRelation_6 : decode cX4_hasRelation 6 = .ok (.istore_n 1, 1) := dk_60 (dk_at dksX4_hasRelation_0 6 rfl rfl)
theorem dX4_hasRelation_7 : decode cX4_hasRelation 7 = .ok (.iload_n 1, 1) := dk_27 (dk_at dksX4_hasRelation_0 7 rfl rfl)
theorem dX4_hasRelation_8 : decode cX4_hasRelation 8 = .ok (.ifCond .lt 33, 3) := dk_155 0 33 (dk_at dksX4_hasRelation_0 8 rfl rfl)
theorem dX4_hasRelation_11 : decode cX4_hasRelation 11 = .ok (.aload_n 0, 1) := dk_42 (dk_at dksX4_hasRelation_0 11 rfl rfl)
theorem dX4_hasRelation_12 : decode cX4_hasRelation 12 = .ok (.getfield 35, 3) := dk_180 0 35 (dk_at dksX4_hasRelation_0 12 rfl rfl)
theorem dX4_hasRelation_15 : decode cX4_hasRelation 15 = .ok (.iload_n 1, 1) := dk_27 (dk_at dksX4_hasRelation_0 15 rfl rfl)
theorem dX4_hasRelation_16 : decode cX4_hasRelation 16 = .ok (.iaload, 1) := dk_46 (dk_at dksX4_hasRelation_0 16 rfl rfl)
theorem dX4_hasRelation_17 : decode cX4_hasRelation 17 = .ok (.bipush 20, 2) := dk_16 20 (dk_at dksX4_hasRelation_0 17 rfl rfl)
theorem dX4_hasRelation_19 : decode cX4_hasRelation 19 = .ok (.if_icmp .eq 22, 3) := dk_159 0 22 (dk_at dksX4_hasRelation_0 19 rfl rfl)
theorem dX4_hasRelation_22 : decode cX4_hasRelation 22 = .ok (.aload_n 0, 1) := dk_42 (dk_at dksX4_hasRelation_0 22 rfl rfl)
theorem dX4_hasRelation_23 : decode cX4_hasRelation 23 = .ok (.getfield 35, 3) := dk_180 0 35 (dk_at dksX4_hasRelation_1 0 rfl rfl)
theorem dX4_hasRelation_26 : decode cX4_hasRelation 26 = .ok (.iload_n 1, 1) := dk_27 (dk_at dksX4_hasRelation_1 3 rfl rfl)
theorem dX4_hasRelation_27 : decode cX4_hasRelation 27 = .ok (.iaload, 1) := dk_46 (dk_at dksX4_hasRelation_1 4 rfl rfl)
theorem dX4_hasRelation_28 : decode cX4_hasRelation 28 = .ok (.invokestatic 307, 3) := dk_184 1 51 (dk_at dksX4_hasRelation_1 5 rfl rfl)
theorem dX4_hasRelation_31 : decode cX4_hasRelation 31 = .ok (.iconst 4, 1) := dk_7 (dk_at dksX4_hasRelation_1 8 rfl rfl)
theorem dX4_hasRelation_32 : decode cX4_hasRelation 32 = .ok (.if_icmp .le 9, 3) := dk_164 0 9 (dk_at dksX4_hasRelation_1 9 rfl rfl)
theorem dX4_hasRelation_35 : decode cX4_hasRelation 35 = .ok (.iinc 1 (-1), 3) := dk_132 1 255 (dk_at dksX4_hasRelation_1 12 rfl rfl)
theorem dX4_hasRelation_38 : decode cX4_hasRelation 38 = .ok (.goto (-31), 3) := dk_167 255 225 (dk_at dksX4_hasRelation_1 15 rfl rfl)
theorem dX4_hasRelation_41 : decode cX4_hasRelation 41 = .ok (.iload_n 1, 1) := dk_27 (dk_at dksX4_hasRelation_1 18 rfl rfl)
theorem dX4_hasRelation_42 : decode cX4_hasRelation 42 = .ok (.ifCond .lt 31, 3) := dk_155 0 31 (dk_at dksX4_hasRelation_1 19 rfl rfl)
theorem dX4_hasRelation_45 : decode cX4_hasRelation 45 = .ok (.aload_n 0, 1) := dk_42 (dk_at dksX4_hasRelation_1 22 rfl rfl)
theorem dX4_hasRelation_46 : decode cX4_hasRelation 46 = .ok (.getfield 35, 3) := dk_180 0 35 (dk_at dksX4_hasRelation_2 0 rfl rfl)
theorem dX4_hasRelation_49 : decode cX4_hasRelation 49 = .ok (.iload_n 1, 1) := dk_27 (dk_at dksX4_hasRelation_2 3 rfl rfl)
theorem dX4_hasRelation_50 : decode cX4_hasRelation 50 = .ok (.iaload, 1) := dk_46 (dk_at dksX4_hasRelation_2 4 rfl rfl)
theorem dX4_hasRelation_51 : decode cX4_hasRelation 51 = .ok (.bipush 20, 2) := dk_16 20 (dk_at dksX4_hasRelation_2 5 rfl rfl)
theorem dX4_hasRelation_53 : decode cX4_hasRelation 53 = .ok (.if_icmp .eq 20, 3) := dk_159 0 20 (dk_at dksX4_hasRelation_2 7 rfl rfl)
theorem dX4_hasRelation_56 : decode cX4_hasRelation 56 = .ok (.aload_n 0, 1) := dk_42 (dk_at dksX4_hasRelation_2 10 rfl rfl)
theorem dX4_hasRelation_57 : decode cX4_hasRelation 57 = .ok (.getfield 35, 3) := dk_180 0 35 (dk_at dksX4_hasRelation_2 11 rfl rfl)
theorem dX4_hasRelation_60 : decode cX4_hasRelation 60 = .ok (.iload_n 1, 1) := dk_27 (dk_at dksX4_hasRelation_2 14 rfl rfl)
theorem dX4_hasRelation_61 : decode cX4_hasRelation 61 = .ok (.iaload, 1) := dk_46 (dk_at dksX4_hasRelation_2 15 rfl rfl)
theorem dX4_hasRelation_62 : decode cX4_hasRelation 62 = .ok (.invokestatic 307, 3) := dk_184 1 51 (dk_at dksX4_hasRelation_2 16 rfl rfl)
theorem dX4_hasRelation_65 : decode cX4_hasRelation 65 = .ok (.iconst 4, 1) := dk_7 (dk_at dksX4_hasRelation_2 19 rfl rfl)
theorem dX4_hasRelation_66 : decode cX4_hasRelation 66 = .ok (.if_icmp .ne 7, 3) := dk_160 0 7 (dk_at dksX4_hasRelation_2 20 rfl rfl)
theorem dX4_hasRelation_69 : decode cX4_hasRelation 69 = .ok (.iconst 1, 1) := dk_4 (dk_at dksX4_hasRelation_2 23 rfl rfl)
theorem dX4_hasRelation_70 : decode cX4_hasRelation 70 = .ok (.goto 4, 3) := dk_167 0 4 (dk_at dksX4_hasRelation_3 0 rfl rfl)
theorem dX4_hasRelation_73 : decode cX4_hasRelation 73 = .ok (.iconst 0, 1) := dk_3 (dk_at dksX4_hasRelation_3 3 rfl rfl)
theorem dX4_hasRelation_74 : decode cX4_hasRelation 74 = .ok (.ireturn, 1) := dk_172 (dk_at dksX4_hasRelation_3 4 rfl rfl)
abbrev cX4_readRule : ByteArray := prog_23_method_40_code
def yX4_readRule : MethodName := ⟨RX4, "readRule", "()V"⟩
def dkwX4_readRule_1 : List UInt8 := [182, 1, 135, 42, 180, 0, 224, 154, 0, 13, 42, 89, 180, 1, 138, 4, 96, 181, 1, 138, 177]
abbrev dktX4_readRule_1 : List UInt8 := dkwX4_readRule_1 ++ []
def dkwX4_readRule_0 : List UInt8 := [42, 3, 42, 180, 1, 138, 182, 1, 141, 42, 180, 0, 224, 158, 0, 4, 177, 42, 8, 42, 180, 1, 138, 96]
abbrev dktX4_readRule_0 : List UInt8 := dkwX4_readRule_0 ++ dktX4_readRule_1
theorem dksX4_readRule_0 : cX4_readRule.data.toList.drop 0 = dktX4_readRule_0 := by decide +kernel
theorem dksX4_readRule_1 : cX4_readRule.data.toList.drop 24 = dktX4_readRule_1 := dk_seg dksX4_readRule_0 24 rfl rfl
theorem dX4_readRule_0 : decode cX4_readRule 0 = .ok (.aload_n 0, 1) := dk_42 (dk_at dksX4_readRule_0 0 rfl rfl)
theorem dX4_readRule_1 : decode cX4_readRule 1 = .ok (.iconst 0, 1) := dk_3 (dk_at dksX4_readRule_0 1 rfl rfl)
theorem dX4_readRule_2 : decode cX4_readRule 2 = .ok (.aload_n 0, 1) := dk_42 (dk_at dksX4_readRule_0 2 rfl rfl)
theorem dX4_readRule_3 : decode cX4_readRule 3 = .ok (.getfield 394, 3) := dk_180 1 138 (dk_at dksX4_readRule_0 3 rfl rfl)
theorem dX4_readRule_6 : decode cX4_readRule 6 = .ok (.invokevirtual 397, 3) := dk_182 1 141 (dk_at dksX4_readRule_0 6 rfl rfl)
theorem dX4_readRule_9 : decode cX4_readRule 9 = .ok (.aload_n 0, 1) := dk_42 (dk_at dksX4_readRule_0 9 rfl rfl)
theorem dX4_readRule_10 : decode cX4_readRule 10 = .ok (.getfield 224, 3) := dk_180 0 224 (dk_at dksX4_readRule_0 10 rfl rfl)
theorem dX4_readRule_13 : decode cX4_readRule 13 = .ok (.ifCond .le 4, 3) := dk_158 0 4 (dk_at dksX4_readRule_0 13 rfl rfl)
theorem dX4_readRule_16 : decode cX4_readRule 16 = .ok (.return_, 1) := dk_177 (dk_at dksX4_readRule_0 16 rfl rfl)
theorem dX4_readRule_17 : decode cX4_readRule 17 = .ok (.aload_n 0, 1) := dk_42 (dk_at dksX4_readRule_0 17 rfl rfl)
theorem dX4_readRule_18 : decode cX4_readRule 18 = .ok (.iconst 5, 1) := dk_8 (dk_at dksX4_readRule_0 18 rfl rfl)
theorem dX4_readRule_19 : decode cX4_readRule 19 = .ok (.aload_n 0, 1) := dk_42 (dk_at dksX4_readRule_0 19 rfl rfl)
theorem dX4_readRule_20 : decode cX4_readRule 20 = .ok (.getfield 394, 3) := dk_180 1 138 (dk_at dksX4_readRule_0 20 rfl rfl)
theorem dX4_readRule_23 : decode cX4_readRule 23 = .ok (.iadd, 1) := dk_96 (dk_at dksX4_readRule_0 23 rfl rfl)
theorem dX4_readRule_24 : decode cX4_readRule 24 = .ok (.invokevirtual 391, 3) := dk_182 1 135 (dk_at dksX4_readRule_1 0 rfl rfl)
theorem dX4_readRule_27 : decode cX4_readRule 27 = .ok (.aload_n 0, 1) := dk_42 (dk_at dksX4_readRule_1 3 rfl rfl)
theorem dX4_readRule_28 : decode cX4_readRule 28 = .ok (.getfield 224, 3) := dk_180 0 224 (dk_at dksX4_readRule_1 4 rfl rfl)
theorem dX4_readRule_31 : decode cX4_readRule 31 = .ok (.ifCond .ne 13, 3) := dk_154 0 13 (dk_at dksX4_readRule_1 7 rfl rfl)
theorem dX4_readRule_34 : decode cX4_readRule 34 = .ok (.aload_n 0, 1) := dk_42 (dk_at dksX4_readRule_1 10 rfl rfl)
theorem dX4_readRule_35 : decode cX4_readRule 35 = .ok (.dup, 1) := dk_89 (dk_at dksX4_readRule_1 11 rfl rfl)
theorem dX4_readRule_36 : decode cX4_readRule 36 = .ok (.getfield 394, 3) := dk_180 1 138 (dk_at dksX4_readRule_1 12 rfl rfl)
theorem dX4_readRule_39 : decode cX4_readRule 39 = .ok (.iconst 1, 1) := dk_4 (dk_at dksX4_readRule_1 15 rfl rfl)
theorem dX4_readRule_40 : decode cX4_readRule 40 = .ok (.iadd, 1) := dk_96 (dk_at dksX4_readRule_1 16 rfl rfl)
theorem dX4_readRule_41 : decode cX4_readRule 41 = .ok (.putfield 394, 3) := dk_181 1 138 (dk_at dksX4_readRule_1 17 rfl rfl)
theorem dX4_readRule_44 : decode cX4_readRule 44 = .ok (.return_, 1) := dk_177 (dk_at dksX4_readRule_1 20 rfl rfl)
abbrev cX4_newName : ByteArray := prog_23_method_37_code
def yX4_newName : MethodName := ⟨RX4, "newName", "(II)V"⟩
def dkwX4_newName_2 : List UInt8 := [28, 96, 42, 180, 0, 204, 80, 42, 182, 1, 31, 177]
abbrev dktX4_newName_2 : List UInt8 := dkwX4_newName_2 ++ []
def dkwX4_newName_1 : List UInt8 := [182, 1, 119, 155, 0, 8, 42, 6, 182, 1, 34, 42, 180, 0, 224, 158, 0, 4, 177, 42, 180, 0, 41, 27]
abbrev dktX4_newName_1 : List UInt8 := dkwX4_newName_1 ++ dktX4_newName_2
def dkwX4_newName_0 : List UInt8 := [42, 182, 1, 31, 42, 182, 1, 116, 154, 0, 11, 42, 5, 182, 1, 34, 167, 0, 17, 42, 27, 28]
abbrev dktX4_newName_0 : List UInt8 := dkwX4_newName_0 ++ dktX4_newName_1
theorem dksX4_newName_0 : cX4_newName.data.toList.drop 0 = dktX4_newName_0 := by decide +kernel
theorem dksX4_newName_1 : cX4_newName.data.toList.drop 22 = dktX4_newName_1 := dk_seg dksX4_newName_0 22 rfl rfl
theorem dksX4_newName_2 : cX4_newName.data.toList.drop 46 = dktX4_newName_2 := dk_seg dksX4_newName_1 24 rfl rfl
theorem dX4_newName_0 : decode cX4_newName 0 = .ok (.aload_n 0, 1) := dk_42 (dk_at dksX4_newName_0 0 rfl rfl)
theorem dX4_newName_1 : decode cX4_newName 1 = .ok (.invokevirtual 287, 3) := dk_182 1 31 (dk_at dksX4_newName_0 1 rfl rfl)
theorem dX4_newName_4 : decode cX4_newName 4 = .ok (.aload_n 0, 1) := dk_42 (dk_at dksX4_newName_0 4 rfl rfl)
theorem dX4_newName_5 : decode cX4_newName 5 = .ok (.invokevirtual 372, 3) := dk_182 1 116 (dk_at dksX4_newName_0 5 rfl rfl)
theorem dX4_newName_8 : decode cX4_newName 8 = .ok (.ifCond .ne 11, 3) := dk_154 0 11 (dk_at dksX4_newName_0 8 rfl rfl)
theorem dX4_newName_11 : decode cX4_newName 11 = .ok (.aload_n 0, 1) := dk_42 (dk_at dksX4_newName_0 11 rfl rfl)
theorem dX4_newName_12 : decode cX4_newName 12 = .ok (.iconst 2, 1) := dk_5 (dk_at dksX4_newName_0 12 rfl rfl)
theorem dX4_newName_13 : decode cX4_newName 13 = .ok (.invokevirtual 290, 3) := dk_182 1 34 (dk_at dksX4_newName_0 13 rfl rfl)
theorem dX4_newName_16 : decode cX4_newName 16 = .ok (.goto 17, 3) := dk_167 0 17 (dk_at dksX4_newName_0 16 rfl rfl)
theorem dX4_newName_19 : decode cX4_newName 19 = .ok (.aload_n 0, 1) := dk_42 (dk_at dksX4_newName_0 19 rfl rfl)
theorem dX4_newName_20 : decode cX4_newName 20 = .ok (.iload_n 1, 1) := dk_27 (dk_at dksX4_newName_0 20 rfl rfl)
theorem dX4_newName_21 : decode cX4_newName 21 = .ok (.iload_n 2, 1) := dk_28 (dk_at dksX4_newName_0 21 rfl rfl)
theorem dX4_newName_22 : decode cX4_newName 22 = .ok (.invokevirtual 375, 3) := dk_182 1 119 (dk_at dksX4_newName_1 0 rfl rfl)
theorem dX4_newName_25 : decode cX4_newName 25 = .ok (.ifCond .lt 8, 3) := dk_155 0 8 (dk_at dksX4_newName_1 3 rfl rfl)
theorem dX4_newName_28 : decode cX4_newName 28 = .ok (.aload_n 0, 1) := dk_42 (dk_at dksX4_newName_1 6 rfl rfl)
theorem dX4_newName_29 : decode cX4_newName 29 = .ok (.iconst 3, 1) := dk_6 (dk_at dksX4_newName_1 7 rfl rfl)
theorem dX4_newName_30 : decode cX4_newName 30 = .ok (.invokevirtual 290, 3) := dk_182 1 34 (dk_at dksX4_newName_1 8 rfl rfl)
theorem dX4_newName_33 : decode cX4_newName 33 = .ok (.aload_n 0, 1) := dk_42 (dk_at dksX4_newName_1 11 rfl rfl)
theorem dX4_newName_34 : decode cX4_newName 34 = .ok (.getfield 224, 3) := dk_180 0 224 (dk_at dksX4_newName_1 12 rfl rfl)
theorem dX4_newName_37 : decode cX4_newName 37 = .ok (.ifCond .le 4, 3) := dk_158 0 4 (dk_at dksX4_newName_1 15 rfl rfl)
theorem dX4_newName_40 : decode cX4_newName 40 = .ok (.return_, 1) := dk_177 (dk_at dksX4_newName_1 18 rfl rfl)
theorem dX4_newName_41 : decode cX4_newName 41 = .ok (.aload_n 0, 1) := dk_42 (dk_at dksX4_newName_1 19 rfl rfl)
theorem dX4_newName_42 : decode cX4_newName 42 = .ok (.getfield 41, 3) := dk_180 0 41 (dk_at dksX4_newName_1 20 rfl rfl)
theorem dX4_newName_45 : decode cX4_newName 45 = .ok (.iload_n 1, 1) := dk_27 (dk_at dksX4_newName_1 23 rfl rfl)
theorem dX4_newName_46 : decode cX4_newName 46 = .ok (.iload_n 2, 1) := dk_28 (dk_at dksX4_newName_2 0 rfl rfl)
theorem dX4_newName_47 : decode cX4_newName 47 = .ok (.iadd, 1) := dk_96 (dk_at dksX4_newName_2 1 rfl rfl)
theorem dX4_newName_48 : decode cX4_newName 48 = .ok (.aload_n 0, 1) := dk_42 (dk_at dksX4_newName_2 2 rfl rfl)
theorem dX4_newName_49 : decode cX4_newName 49 = .ok (.getfield 204, 3) := dk_180 0 204 (dk_at dksX4_newName_2 3 rfl rfl)
theorem dX4_newName_52 : decode cX4_newName 52 = .ok (.lastore, 1) := dk_80 (dk_at dksX4_newName_2 6 rfl rfl)
theorem dX4_newName_53 : decode cX4_newName 53 = .ok (.aload_n 0, 1) := dk_42 (dk_at dksX4_newName_2 7 rfl rfl)
theorem dX4_newName_54 : decode cX4_newName 54 = .ok (.invokevirtual 287, 3) := dk_182 1 31 (dk_at dksX4_newName_2 8 rfl rfl)
theorem dX4_newName_57 : decode cX4_newName 57 = .ok (.return_, 1) := dk_177 (dk_at dksX4_newName_2 11 rfl rfl)
abbrev cX4_isName : ByteArray := prog_23_method_14_code
def yX4_isName : MethodName := ⟨RX4, "isName", "()Z"⟩
def dkwX4_isName_0 : List UInt8 := [42, 180, 0, 211, 4, 160, 0, 14, 42, 182, 1, 23, 154, 0, 7, 4, 167, 0, 4, 3, 172]
abbrev dktX4_isName_0 : List UInt8 := dkwX4_isName_0 ++ []
theorem dksX4_isName_0 : cX4_isName.data.toList.drop 0 = dktX4_isName_0 := by decide +kernel
theorem dX4_isName_0 : decode cX4_isName 0 = .ok (.aload_n 0, 1) := dk_42 (dk_at dksX4_isName_0 0 rfl rfl)
theorem dX4_isName_1 : decode cX4_isName 1 = .ok (.getfield 211, 3) := dk_180 0 211 (dk_at dksX4_isName_0 1 rfl rfl)
theorem dX4_isName_4 : decode cX4_isName 4 = .ok (.iconst 1, 1) := dk_4 (dk_at dksX4_isName_0 4 rfl rfl)
theorem dX4_isName_5 : decode cX4_isName 5 = .ok (.if_icmp .ne 14, 3) := dk_160 0 14 (dk_at dksX4_isName_0 5 rfl rfl)
theorem dX4_isName_8 : decode cX4_isName 8 = .ok (.aload_n 0, 1) := dk_42 (dk_at dksX4_isName_0 8 rfl rfl)
theorem dX4_isName_9 : decode cX4_isName 9 = .ok (.invokevirtual 279, 3) := dk_182 1 23 (dk_at dksX4_isName_0 9 rfl rfl)
theorem dX4_isName_12 : decode cX4_isName 12 = .ok (.ifCond .ne 7, 3) := dk_154 0 7 (dk_at dksX4_isName_0 12 rfl rfl)
theorem dX4_isName_15 : decode cX4_isName 15 = .ok (.iconst 1, 1) := dk_4 (dk_at dksX4_isName_0 15 rfl rfl)
theorem dX4_isName_16 : decode cX4_isName 16 = .ok (.goto 4, 3) := dk_167 0 4 (dk_at dksX4_isName_0 16 rfl rfl)
theorem dX4_isName_19 : decode cX4_isName 19 = .ok (.iconst 0, 1) := dk_3 (dk_at dksX4_isName_0 19 rfl rfl)
theorem dX4_isName_20 : decode cX4_isName 20 = .ok (.ireturn, 1) := dk_172 (dk_at dksX4_isName_0 20 rfl rfl)
abbrev cX4_isOwn : ByteArray := prog_23_method_13_code
def yX4_isOwn : MethodName := ⟨RX4, "isOwn", "()Z"⟩
def dkwX4_isOwn_13 : List UInt8 := [167, 0, 4, 3, 172]
abbrev dktX4_isOwn_13 : List UInt8 := dkwX4_isOwn_13 ++ []
def dkwX4_isOwn_12 : List UInt8 := [180, 0, 204, 20, 1, 19, 148, 153, 0, 14, 42, 180, 0, 204, 20, 1, 21, 148, 154, 0, 7, 4]
abbrev dktX4_isOwn_12 : List UInt8 := dkwX4_isOwn_12 ++ dktX4_isOwn_13
def dkwX4_isOwn_11 : List UInt8 := [180, 0, 204, 20, 1, 15, 148, 153, 0, 36, 42, 180, 0, 204, 20, 1, 17, 148, 153, 0, 25, 42]
abbrev dktX4_isOwn_11 : List UInt8 := dkwX4_isOwn_11 ++ dktX4_isOwn_12
def dkwX4_isOwn_10 : List UInt8 := [180, 0, 204, 20, 1, 11, 148, 153, 0, 58, 42, 180, 0, 204, 20, 1, 13, 148, 153, 0, 47, 42]
abbrev dktX4_isOwn_10 : List UInt8 := dkwX4_isOwn_10 ++ dktX4_isOwn_11
def dkwX4_isOwn_9 : List UInt8 := [180, 0, 204, 20, 1, 7, 148, 153, 0, 80, 42, 180, 0, 204, 20, 1, 9, 148, 153, 0, 69, 42]
abbrev dktX4_isOwn_9 : List UInt8 := dkwX4_isOwn_9 ++ dktX4_isOwn_10
def dkwX4_isOwn_8 : List UInt8 := [180, 0, 204, 20, 1, 3, 148, 153, 0, 102, 42, 180, 0, 204, 20, 1, 5, 148, 153, 0, 91, 42]
abbrev dktX4_isOwn_8 : List UInt8 := dkwX4_isOwn_8 ++ dktX4_isOwn_9
def dkwX4_isOwn_7 : List UInt8 := [180, 0, 204, 20, 0, 255, 148, 153, 0, 124, 42, 180, 0, 204, 20, 1, 1, 148, 153, 0, 113, 42]
abbrev dktX4_isOwn_7 : List UInt8 := dkwX4_isOwn_7 ++ dktX4_isOwn_8
def dkwX4_isOwn_6 : List UInt8 := [180, 0, 204, 20, 0, 251, 148, 153, 0, 146, 42, 180, 0, 204, 20, 0, 253, 148, 153, 0, 135, 42]
abbrev dktX4_isOwn_6 : List UInt8 := dkwX4_isOwn_6 ++ dktX4_isOwn_7
def dkwX4_isOwn_5 : List UInt8 := [180, 0, 204, 20, 0, 247, 148, 153, 0, 168, 42, 180, 0, 204, 20, 0, 249, 148, 153, 0, 157, 42]
abbrev dktX4_isOwn_5 : List UInt8 := dkwX4_isOwn_5 ++ dktX4_isOwn_6
def dkwX4_isOwn_4 : List UInt8 := [180, 0, 204, 20, 0, 243, 148, 153, 0, 190, 42, 180, 0, 204, 20, 0, 245, 148, 153, 0, 179, 42]
abbrev dktX4_isOwn_4 : List UInt8 := dkwX4_isOwn_4 ++ dktX4_isOwn_5
def dkwX4_isOwn_3 : List UInt8 := [180, 0, 204, 20, 0, 239, 148, 153, 0, 212, 42, 180, 0, 204, 20, 0, 241, 148, 153, 0, 201, 42]
abbrev dktX4_isOwn_3 : List UInt8 := dkwX4_isOwn_3 ++ dktX4_isOwn_4
def dkwX4_isOwn_2 : List UInt8 := [180, 0, 204, 20, 0, 235, 148, 153, 0, 234, 42, 180, 0, 204, 20, 0, 237, 148, 153, 0, 223, 42]
abbrev dktX4_isOwn_2 : List UInt8 := dkwX4_isOwn_2 ++ dktX4_isOwn_3
def dkwX4_isOwn_1 : List UInt8 := [180, 0, 204, 20, 0, 231, 148, 153, 1, 0, 42, 180, 0, 204, 20, 0, 233, 148, 153, 0, 245, 42]
abbrev dktX4_isOwn_1 : List UInt8 := dkwX4_isOwn_1 ++ dktX4_isOwn_2
def dkwX4_isOwn_0 : List UInt8 := [42, 180, 0, 204, 20, 0, 227, 148, 153, 1, 22, 42, 180, 0, 204, 20, 0, 229, 148, 153, 1, 11, 42]
abbrev dktX4_isOwn_0 : List UInt8 := dkwX4_isOwn_0 ++ dktX4_isOwn_1
theorem dksX4_isOwn_0 : cX4_isOwn.data.toList.drop 0 = dktX4_isOwn_0 := by decide +kernel
theorem dksX4_isOwn_1 : cX4_isOwn.data.toList.drop 23 = dktX4_isOwn_1 := dk_seg dksX4_isOwn_0 23 rfl rfl
theorem dksX4_isOwn_2 : cX4_isOwn.data.toList.drop 45 = dktX4_isOwn_2 := dk_seg dksX4_isOwn_1 22 rfl rfl
theorem dksX4_isOwn_3 : cX4_isOwn.data.toList.drop 67 = dktX4_isOwn_3 := dk_seg dksX4_isOwn_2 22 rfl rfl
theorem dksX4_isOwn_4 : cX4_isOwn.data.toList.drop 89 = dktX4_isOwn_4 := dk_seg dksX4_isOwn_3 22 rfl rfl
theorem dksX4_isOwn_5 : cX4_isOwn.data.toList.drop 111 = dktX4_isOwn_5 := dk_seg dksX4_isOwn_4 22 rfl rfl
theorem dksX4_isOwn_6 : cX4_isOwn.data.toList.drop 133 = dktX4_isOwn_6 := dk_seg dksX4_isOwn_5 22 rfl rfl
theorem dksX4_isOwn_7 : cX4_isOwn.data.toList.drop 155 = dktX4_isOwn_7 := dk_seg dksX4_isOwn_6 22 rfl rfl
theorem dksX4_isOwn_8 : cX4_isOwn.data.toList.drop 177 = dktX4_isOwn_8 := dk_seg dksX4_isOwn_7 22 rfl rfl
theorem dksX4_isOwn_9 : cX4_isOwn.data.toList.drop 199 = dktX4_isOwn_9 := dk_seg dksX4_isOwn_8 22 rfl rfl
theorem dksX4_isOwn_10 : cX4_isOwn.data.toList.drop 221 = dktX4_isOwn_10 := dk_seg dksX4_isOwn_9 22 rfl rfl
theorem dksX4_isOwn_11 : cX4_isOwn.data.toList.drop 243 = dktX4_isOwn_11 := dk_seg dksX4_isOwn_10 22 rfl rfl
theorem dksX4_isOwn_12 : cX4_isOwn.data.toList.drop 265 = dktX4_isOwn_12 := dk_seg dksX4_isOwn_11 22 rfl rfl
theorem dksX4_isOwn_13 : cX4_isOwn.data.toList.drop 287 = dktX4_isOwn_13 := dk_seg dksX4_isOwn_12 22 rfl rfl
theorem dX4_isOwn_0 : decode cX4_isOwn 0 = .ok (.aload_n 0, 1) := dk_42 (dk_at dksX4_isOwn_0 0 rfl rfl)
theorem dX4_isOwn_1 : decode cX4_isOwn 1 = .ok (.getfield 204, 3) := dk_180 0 204 (dk_at dksX4_isOwn_0 1 rfl rfl)
theorem dX4_isOwn_4 : decode cX4_isOwn 4 = .ok (.ldc2_w 227, 3) := dk_20 0 227 (dk_at dksX4_isOwn_0 4 rfl rfl)
theorem dX4_isOwn_7 : decode cX4_isOwn 7 = .ok (.lcmp, 1) := dk_148 (dk_at dksX4_isOwn_0 7 rfl rfl)
theorem dX4_isOwn_8 : decode cX4_isOwn 8 = .ok (.ifCond .eq 278, 3) := dk_153 1 22 (dk_at dksX4_isOwn_0 8 rfl rfl)
theorem dX4_isOwn_11 : decode cX4_isOwn 11 = .ok (.aload_n 0, 1) := dk_42 (dk_at dksX4_isOwn_0 11 rfl rfl)
theorem dX4_isOwn_12 : decode cX4_isOwn 12 = .ok (.getfield 204, 3) := dk_180 0 204 (dk_at dksX4_isOwn_0 12 rfl rfl)
theorem dX4_isOwn_15 : decode cX4_isOwn 15 = .ok (.ldc2_w 229, 3) := dk_20 0 229 (dk_at dksX4_isOwn_0 15 rfl rfl)
theorem dX4_isOwn_18 : decode cX4_isOwn 18 = .ok (.lcmp, 1) := dk_148 (dk_at dksX4_isOwn_0 18 rfl rfl)
theorem dX4_isOwn_19 : decode cX4_isOwn 19 = .ok (.ifCond .eq 267, 3) := dk_153 1 11 (dk_at dksX4_isOwn_0 19 rfl rfl)
theorem dX4_isOwn_22 : decode cX4_isOwn 22 = .ok (.aload_n 0, 1) := dk_42 (dk_at dksX4_isOwn_0 22 rfl rfl)
theorem dX4_isOwn_23 : decode cX4_isOwn 23 = .ok (.getfield 204, 3) := dk_180 0 204 (dk_at dksX4_isOwn_1 0 rfl rfl)
theorem dX4_isOwn_26 : decode cX4_isOwn 26 = .ok (.ldc2_w 231, 3) := dk_20 0 231 (dk_at dksX4_isOwn_1 3 rfl rfl)
theorem dX4_isOwn_29 : decode cX4_isOwn 29 = .ok (.lcmp, 1) := dk_148 (dk_at dksX4_isOwn_1 6 rfl rfl)
theorem dX4_isOwn_30 : decode cX4_isOwn 30 = .ok (.ifCond .eq 256, 3) := dk_153 1 0 (dk_at dksX4_isOwn_1 7 rfl rfl)
theorem dX4_isOwn_33 : decode cX4_isOwn 33 = .ok (.aload_n 0, 1) := dk_42 (dk_at dksX4_isOwn_1 10 rfl rfl)
theorem dX4_isOwn_34 : decode cX4_isOwn 34 = .ok (.getfield 204, 3) := dk_180 0 204 (dk_at dksX4_isOwn_1 11 rfl rfl)
theorem dX4_isOwn_37 : decode cX4_isOwn 37 = .ok (.ldc2_w 233, 3) := dk_20 0 233 (dk_at dksX4_isOwn_1 14 rfl rfl)
theorem dX4_isOwn_40 : decode cX4_isOwn 40 = .ok (.lcmp, 1) := dk_148 (dk_at dksX4_isOwn_1 17 rfl rfl)
theorem dX4_isOwn_41 : decode cX4_isOwn 41 = .ok (.ifCond .eq 245, 3) := dk_153 0 245 (dk_at dksX4_isOwn_1 18 rfl rfl)
theorem dX4_isOwn_44 : decode cX4_isOwn 44 = .ok (.aload_n 0, 1) := dk_42 (dk_at dksX4_isOwn_1 21 rfl rfl)
theorem dX4_isOwn_45 : decode cX4_isOwn 45 = .ok (.getfield 204, 3) := dk_180 0 204 (dk_at dksX4_isOwn_2 0 rfl rfl)
theorem dX4_isOwn_48 : decode cX4_isOwn 48 = .ok (.ldc2_w 235, 3) := dk_20 0 235 (dk_at dksX4_isOwn_2 3 rfl rfl)
theorem dX4_isOwn_51 : decode cX4_isOwn 51 = .ok (.lcmp, 1) := dk_148 (dk_at dksX4_isOwn_2 6 rfl rfl)
theorem dX4_isOwn_52 : decode cX4_isOwn 52 = .ok (.ifCond .eq 234, 3) := dk_153 0 234 (dk_at dksX4_isOwn_2 7 rfl rfl)
theorem dX4_isOwn_55 : decode cX4_isOwn 55 = .ok (.aload_n 0, 1) := dk_42 (dk_at dksX4_isOwn_2 10 rfl rfl)
theorem dX4_isOwn_56 : decode cX4_isOwn 56 = .ok (.getfield 204, 3) := dk_180 0 204 (dk_at dksX4_isOwn_2 11 rfl rfl)
theorem dX4_isOwn_59 : decode cX4_isOwn 59 = .ok (.ldc2_w 237, 3) := dk_20 0 237 (dk_at dksX4_isOwn_2 14 rfl rfl)
theorem dX4_isOwn_62 : decode cX4_isOwn 62 = .ok (.lcmp, 1) := dk_148 (dk_at dksX4_isOwn_2 17 rfl rfl)
theorem dX4_isOwn_63 : decode cX4_isOwn 63 = .ok (.ifCond .eq 223, 3) := dk_153 0 223 (dk_at dksX4_isOwn_2 18 rfl rfl)
theorem dX4_isOwn_66 : decode cX4_isOwn 66 = .ok (.aload_n 0, 1) := dk_42 (dk_at dksX4_isOwn_2 21 rfl rfl)
theorem dX4_isOwn_67 : decode cX4_isOwn 67 = .ok (.getfield 204, 3) := dk_180 0 204 (dk_at dksX4_isOwn_3 0 rfl rfl)
theorem dX4_isOwn_70 : decode cX4_isOwn 70 = .ok (.ldc2_w 239, 3) := dk_20 0 239 (dk_at dksX4_isOwn_3 3 rfl rfl)
theorem dX4_isOwn_73 : decode cX4_isOwn 73 = .ok (.lcmp, 1) := dk_148 (dk_at dksX4_isOwn_3 6 rfl rfl)
theorem dX4_isOwn_74 : decode cX4_isOwn 74 = .ok (.ifCond .eq 212, 3) := dk_153 0 212 (dk_at dksX4_isOwn_3 7 rfl rfl)
theorem dX4_isOwn_77 : decode cX4_isOwn 77 = .ok (.aload_n 0, 1) := dk_42 (dk_at dksX4_isOwn_3 10 rfl rfl)
theorem dX4_isOwn_78 : decode cX4_isOwn 78 = .ok (.getfield 204, 3) := dk_180 0 204 (dk_at dksX4_isOwn_3 11 rfl rfl)
theorem dX4_isOwn_81 : decode cX4_isOwn 81 = .ok (.ldc2_w 241, 3) := dk_20 0 241 (dk_at dksX4_isOwn_3 14 rfl rfl)
theorem dX4_isOwn_84 : decode cX4_isOwn 84 = .ok (.lcmp, 1) := dk_148 (dk_at dksX4_isOwn_3 17 rfl rfl)
theorem dX4_isOwn_85 : decode cX4_isOwn 85 = .ok (.ifCond .eq 201, 3) := dk_153 0 201 (dk_at dksX4_isOwn_3 18 rfl rfl)
theorem dX4_isOwn_88 : decode cX4_isOwn 88 = .ok (.aload_n 0, 1) := dk_42 (dk_at dksX4_isOwn_3 21 rfl rfl)
theorem dX4_isOwn_89 : decode cX4_isOwn 89 = .ok (.getfield 204, 3) := dk_180 0 204 (dk_at dksX4_isOwn_4 0 rfl rfl)
theorem dX4_isOwn_92 : decode cX4_isOwn 92 = .ok (.ldc2_w 243, 3) := dk_20 0 243 (dk_at dksX4_isOwn_4 3 rfl rfl)
theorem dX4_isOwn_95 : decode cX4_isOwn 95 = .ok (.lcmp, 1) := dk_148 (dk_at dksX4_isOwn_4 6 rfl rfl)
theorem dX4_isOwn_96 : decode cX4_isOwn 96 = .ok (.ifCond .eq 190, 3) := dk_153 0 190 (dk_at dksX4_isOwn_4 7 rfl rfl)
theorem dX4_isOwn_99 : decode cX4_isOwn 99 = .ok (.aload_n 0, 1) := dk_42 (dk_at dksX4_isOwn_4 10 rfl rfl)
theorem dX4_isOwn_100 : decode cX4_isOwn 100 = .ok (.getfield 204, 3) := dk_180 0 204 (dk_at dksX4_isOwn_4 11 rfl rfl)
theorem dX4_isOwn_103 : decode cX4_isOwn 103 = .ok (.ldc2_w 245, 3) := dk_20 0 245 (dk_at dksX4_isOwn_4 14 rfl rfl)
theorem dX4_isOwn_106 : decode cX4_isOwn 106 = .ok (.lcmp, 1) := dk_148 (dk_at dksX4_isOwn_4 17 rfl rfl)
theorem dX4_isOwn_107 : decode cX4_isOwn 107 = .ok (.ifCond .eq 179, 3) := dk_153 0 179 (dk_at dksX4_isOwn_4 18 rfl rfl)
theorem dX4_isOwn_110 : decode cX4_isOwn 110 = .ok (.aload_n 0, 1) := dk_42 (dk_at dksX4_isOwn_4 21 rfl rfl)
theorem dX4_isOwn_111 : decode cX4_isOwn 111 = .ok (.getfield 204, 3) := dk_180 0 204 (dk_at dksX4_isOwn_5 0 rfl rfl)
theorem dX4_isOwn_114 : decode cX4_isOwn 114 = .ok (.ldc2_w 247, 3) := dk_20 0 247 (dk_at dksX4_isOwn_5 3 rfl rfl)
theorem dX4_isOwn_117 : decode cX4_isOwn 117 = .ok (.lcmp, 1) := dk_148 (dk_at dksX4_isOwn_5 6 rfl rfl)
theorem dX4_isOwn_118 : decode cX4_isOwn 118 = .ok (.ifCond .eq 168, 3) := dk_153 0 168 (dk_at dksX4_isOwn_5 7 rfl rfl)
theorem dX4_isOwn_121 : decode cX4_isOwn 121 = .ok (.aload_n 0, 1) := dk_42 (dk_at dksX4_isOwn_5 10 rfl rfl)
theorem dX4_isOwn_122 : decode cX4_isOwn 122 = .ok (.getfield 204, 3) := dk_180 0 204 (dk_at dksX4_isOwn_5 11 rfl rfl)
theorem dX4_isOwn_125 : decode cX4_isOwn 125 = .ok (.ldc2_w 249, 3) := dk_20 0 249 (dk_at dksX4_isOwn_5 14 rfl rfl)
theorem dX4_isOwn_128 : decode cX4_isOwn 128 = .ok (.lcmp, 1) := dk_148 (dk_at dksX4_isOwn_5 17 rfl rfl)
theorem dX4_isOwn_129 : decode cX4_isOwn 129 = .ok (.ifCond .eq 157, 3) := dk_153 0 157 (dk_at dksX4_isOwn_5 18 rfl rfl)
theorem dX4_isOwn_132 : decode cX4_isOwn 132 = .ok (.aload_n 0, 1) := dk_42 (dk_at dksX4_isOwn_5 21 rfl rfl)
theorem dX4_isOwn_133 : decode cX4_isOwn 133 = .ok (.getfield 204, 3) := dk_180 0 204 (dk_at dksX4_isOwn_6 0 rfl rfl)
theorem dX4_isOwn_136 : decode cX4_isOwn 136 = .ok (.ldc2_w 251, 3) := dk_20 0 251 (dk_at dksX4_isOwn_6 3 rfl rfl)
theorem dX4_isOwn_139 : decode cX4_isOwn 139 = .ok (.lcmp, 1) := dk_148 (dk_at dksX4_isOwn_6 6 rfl rfl)
theorem dX4_isOwn_140 : decode cX4_isOwn 140 = .ok (.ifCond .eq 146, 3) := dk_153 0 146 (dk_at dksX4_isOwn_6 7 rfl rfl)
theorem dX4_isOwn_143 : decode cX4_isOwn 143 = .ok (.aload_n 0, 1) := dk_42 (dk_at dksX4_isOwn_6 10 rfl rfl)
theorem dX4_isOwn_144 : decode cX4_isOwn 144 = .ok (.getfield 204, 3) := dk_180 0 204 (dk_at dksX4_isOwn_6 11 rfl rfl)
theorem dX4_isOwn_147 : decode cX4_isOwn 147 = .ok (.ldc2_w 253, 3) := dk_20 0 253 (dk_at dksX4_isOwn_6 14 rfl rfl)
theorem dX4_isOwn_150 : decode cX4_isOwn 150 = .ok (.lcmp, 1) := dk_148 (dk_at dksX4_isOwn_6 17 rfl rfl)
theorem dX4_isOwn_151 : decode cX4_isOwn 151 = .ok (.ifCond .eq 135, 3) := dk_153 0 135 (dk_at dksX4_isOwn_6 18 rfl rfl)
theorem dX4_isOwn_154 : decode cX4_isOwn 154 = .ok (.aload_n 0, 1) := dk_42 (dk_at dksX4_isOwn_6 21 rfl rfl)
theorem dX4_isOwn_155 : decode cX4_isOwn 155 = .ok (.getfield 204, 3) := dk_180 0 204 (dk_at dksX4_isOwn_7 0 rfl rfl)
theorem dX4_isOwn_158 : decode cX4_isOwn 158 = .ok (.ldc2_w 255, 3) := dk_20 0 255 (dk_at dksX4_isOwn_7 3 rfl rfl)
theorem dX4_isOwn_161 : decode cX4_isOwn 161 = .ok (.lcmp, 1) := dk_148 (dk_at dksX4_isOwn_7 6 rfl rfl)
theorem dX4_isOwn_162 : decode cX4_isOwn 162 = .ok (.ifCond .eq 124, 3) := dk_153 0 124 (dk_at dksX4_isOwn_7 7 rfl rfl)
theorem dX4_isOwn_165 : decode cX4_isOwn 165 = .ok (.aload_n 0, 1) := dk_42 (dk_at dksX4_isOwn_7 10 rfl rfl)
theorem dX4_isOwn_166 : decode cX4_isOwn 166 = .ok (.getfield 204, 3) := dk_180 0 204 (dk_at dksX4_isOwn_7 11 rfl rfl)
theorem dX4_isOwn_169 : decode cX4_isOwn 169 = .ok (.ldc2_w 257, 3) := dk_20 1 1 (dk_at dksX4_isOwn_7 14 rfl rfl)
theorem dX4_isOwn_172 : decode cX4_isOwn 172 = .ok (.lcmp, 1) := dk_148 (dk_at dksX4_isOwn_7 17 rfl rfl)
theorem dX4_isOwn_173 : decode cX4_isOwn 173 = .ok (.ifCond .eq 113, 3) := dk_153 0 113 (dk_at dksX4_isOwn_7 18 rfl rfl)
theorem dX4_isOwn_176 : decode cX4_isOwn 176 = .ok (.aload_n 0, 1) := dk_42 (dk_at dksX4_isOwn_7 21 rfl rfl)
theorem dX4_isOwn_177 : decode cX4_isOwn 177 = .ok (.getfield 204, 3) := dk_180 0 204 (dk_at dksX4_isOwn_8 0 rfl rfl)
theorem dX4_isOwn_180 : decode cX4_isOwn 180 = .ok (.ldc2_w 259, 3) := dk_20 1 3 (dk_at dksX4_isOwn_8 3 rfl rfl)
theorem dX4_isOwn_183 : decode cX4_isOwn 183 = .ok (.lcmp, 1) := dk_148 (dk_at dksX4_isOwn_8 6 rfl rfl)
theorem dX4_isOwn_184 : decode cX4_isOwn 184 = .ok (.ifCond .eq 102, 3) := dk_153 0 102 (dk_at dksX4_isOwn_8 7 rfl rfl)
theorem dX4_isOwn_187 : decode cX4_isOwn 187 = .ok (.aload_n 0, 1) := dk_42 (dk_at dksX4_isOwn_8 10 rfl rfl)
theorem dX4_isOwn_188 : decode cX4_isOwn 188 = .ok (.getfield 204, 3) := dk_180 0 204 (dk_at dksX4_isOwn_8 11 rfl rfl)
theorem dX4_isOwn_191 : decode cX4_isOwn 191 = .ok (.ldc2_w 261, 3) := dk_20 1 5 (dk_at dksX4_isOwn_8 14 rfl rfl)
theorem dX4_isOwn_194 : decode cX4_isOwn 194 = .ok (.lcmp, 1) := dk_148 (dk_at dksX4_isOwn_8 17 rfl rfl)
theorem dX4_isOwn_195 : decode cX4_isOwn 195 = .ok (.ifCond .eq 91, 3) := dk_153 0 91 (dk_at dksX4_isOwn_8 18 rfl rfl)
theorem dX4_isOwn_198 : decode cX4_isOwn 198 = .ok (.aload_n 0, 1) := dk_42 (dk_at dksX4_isOwn_8 21 rfl rfl)
theorem dX4_isOwn_199 : decode cX4_isOwn 199 = .ok (.getfield 204, 3) := dk_180 0 204 (dk_at dksX4_isOwn_9 0 rfl rfl)
theorem dX4_isOwn_202 : decode cX4_isOwn 202 = .ok (.ldc2_w 263, 3) := dk_20 1 7 (dk_at dksX4_isOwn_9 3 rfl rfl)
theorem dX4_isOwn_205 : decode cX4_isOwn 205 = .ok (.lcmp, 1) := dk_148 (dk_at dksX4_isOwn_9 6 rfl rfl)
theorem dX4_isOwn_206 : decode cX4_isOwn 206 = .ok (.ifCond .eq 80, 3) := dk_153 0 80 (dk_at dksX4_isOwn_9 7 rfl rfl)
theorem dX4_isOwn_209 : decode cX4_isOwn 209 = .ok (.aload_n 0, 1) := dk_42 (dk_at dksX4_isOwn_9 10 rfl rfl)
theorem dX4_isOwn_210 : decode cX4_isOwn 210 = .ok (.getfield 204, 3) := dk_180 0 204 (dk_at dksX4_isOwn_9 11 rfl rfl)
theorem dX4_isOwn_213 : decode cX4_isOwn 213 = .ok (.ldc2_w 265, 3) := dk_20 1 9 (dk_at dksX4_isOwn_9 14 rfl rfl)
theorem dX4_isOwn_216 : decode cX4_isOwn 216 = .ok (.lcmp, 1) := dk_148 (dk_at dksX4_isOwn_9 17 rfl rfl)
theorem dX4_isOwn_217 : decode cX4_isOwn 217 = .ok (.ifCond .eq 69, 3) := dk_153 0 69 (dk_at dksX4_isOwn_9 18 rfl rfl)
theorem dX4_isOwn_220 : decode cX4_isOwn 220 = .ok (.aload_n 0, 1) := dk_42 (dk_at dksX4_isOwn_9 21 rfl rfl)
theorem dX4_isOwn_221 : decode cX4_isOwn 221 = .ok (.getfield 204, 3) := dk_180 0 204 (dk_at dksX4_isOwn_10 0 rfl rfl)
theorem dX4_isOwn_224 : decode cX4_isOwn 224 = .ok (.ldc2_w 267, 3) := dk_20 1 11 (dk_at dksX4_isOwn_10 3 rfl rfl)
theorem dX4_isOwn_227 : decode cX4_isOwn 227 = .ok (.lcmp, 1) := dk_148 (dk_at dksX4_isOwn_10 6 rfl rfl)
theorem dX4_isOwn_228 : decode cX4_isOwn 228 = .ok (.ifCond .eq 58, 3) := dk_153 0 58 (dk_at dksX4_isOwn_10 7 rfl rfl)
theorem dX4_isOwn_231 : decode cX4_isOwn 231 = .ok (.aload_n 0, 1) := dk_42 (dk_at dksX4_isOwn_10 10 rfl rfl)
theorem dX4_isOwn_232 : decode cX4_isOwn 232 = .ok (.getfield 204, 3) := dk_180 0 204 (dk_at dksX4_isOwn_10 11 rfl rfl)
theorem dX4_isOwn_235 : decode cX4_isOwn 235 = .ok (.ldc2_w 269, 3) := dk_20 1 13 (dk_at dksX4_isOwn_10 14 rfl rfl)
theorem dX4_isOwn_238 : decode cX4_isOwn 238 = .ok (.lcmp, 1) := dk_148 (dk_at dksX4_isOwn_10 17 rfl rfl)
theorem dX4_isOwn_239 : decode cX4_isOwn 239 = .ok (.ifCond .eq 47, 3) := dk_153 0 47 (dk_at dksX4_isOwn_10 18 rfl rfl)
theorem dX4_isOwn_242 : decode cX4_isOwn 242 = .ok (.aload_n 0, 1) := dk_42 (dk_at dksX4_isOwn_10 21 rfl rfl)
theorem dX4_isOwn_243 : decode cX4_isOwn 243 = .ok (.getfield 204, 3) := dk_180 0 204 (dk_at dksX4_isOwn_11 0 rfl rfl)
theorem dX4_isOwn_246 : decode cX4_isOwn 246 = .ok (.ldc2_w 271, 3) := dk_20 1 15 (dk_at dksX4_isOwn_11 3 rfl rfl)
theorem dX4_isOwn_249 : decode cX4_isOwn 249 = .ok (.lcmp, 1) := dk_148 (dk_at dksX4_isOwn_11 6 rfl rfl)
theorem dX4_isOwn_250 : decode cX4_isOwn 250 = .ok (.ifCond .eq 36, 3) := dk_153 0 36 (dk_at dksX4_isOwn_11 7 rfl rfl)
theorem dX4_isOwn_253 : decode cX4_isOwn 253 = .ok (.aload_n 0, 1) := dk_42 (dk_at dksX4_isOwn_11 10 rfl rfl)
theorem dX4_isOwn_254 : decode cX4_isOwn 254 = .ok (.getfield 204, 3) := dk_180 0 204 (dk_at dksX4_isOwn_11 11 rfl rfl)
theorem dX4_isOwn_257 : decode cX4_isOwn 257 = .ok (.ldc2_w 273, 3) := dk_20 1 17 (dk_at dksX4_isOwn_11 14 rfl rfl)
theorem dX4_isOwn_260 : decode cX4_isOwn 260 = .ok (.lcmp, 1) := dk_148 (dk_at dksX4_isOwn_11 17 rfl rfl)
theorem dX4_isOwn_261 : decode cX4_isOwn 261 = .ok (.ifCond .eq 25, 3) := dk_153 0 25 (dk_at dksX4_isOwn_11 18 rfl rfl)
theorem dX4_isOwn_264 : decode cX4_isOwn 264 = .ok (.aload_n 0, 1) := dk_42 (dk_at dksX4_isOwn_11 21 rfl rfl)
theorem dX4_isOwn_265 : decode cX4_isOwn 265 = .ok (.getfield 204, 3) := dk_180 0 204 (dk_at dksX4_isOwn_12 0 rfl rfl)
theorem dX4_isOwn_268 : decode cX4_isOwn 268 = .ok (.ldc2_w 275, 3) := dk_20 1 19 (dk_at dksX4_isOwn_12 3 rfl rfl)
theorem dX4_isOwn_271 : decode cX4_isOwn 271 = .ok (.lcmp, 1) := dk_148 (dk_at dksX4_isOwn_12 6 rfl rfl)
theorem dX4_isOwn_272 : decode cX4_isOwn 272 = .ok (.ifCond .eq 14, 3) := dk_153 0 14 (dk_at dksX4_isOwn_12 7 rfl rfl)
theorem dX4_isOwn_275 : decode cX4_isOwn 275 = .ok (.aload_n 0, 1) := dk_42 (dk_at dksX4_isOwn_12 10 rfl rfl)
theorem dX4_isOwn_276 : decode cX4_isOwn 276 = .ok (.getfield 204, 3) := dk_180 0 204 (dk_at dksX4_isOwn_12 11 rfl rfl)
theorem dX4_isOwn_279 : decode cX4_isOwn 279 = .ok (.ldc2_w 277, 3) := dk_20 1 21 (dk_at dksX4_isOwn_12 14 rfl rfl)
theorem dX4_isOwn_282 : decode cX4_isOwn 282 = .ok (.lcmp, 1) := dk_148 (dk_at dksX4_isOwn_12 17 rfl rfl)
theorem dX4_isOwn_283 : decode cX4_isOwn 283 = .ok (.ifCond .ne 7, 3) := dk_154 0 7 (dk_at dksX4_isOwn_12 18 rfl rfl)
theorem dX4_isOwn_286 : decode cX4_isOwn 286 = .ok (.iconst 1, 1) := dk_4 (dk_at dksX4_isOwn_12 21 rfl rfl)
theorem dX4_isOwn_287 : decode cX4_isOwn 287 = .ok (.goto 4, 3) := dk_167 0 4 (dk_at dksX4_isOwn_13 0 rfl rfl)
theorem dX4_isOwn_290 : decode cX4_isOwn 290 = .ok (.iconst 0, 1) := dk_3 (dk_at dksX4_isOwn_13 3 rfl rfl)
theorem dX4_isOwn_291 : decode cX4_isOwn 291 = .ok (.ireturn, 1) := dk_172 (dk_at dksX4_isOwn_13 4 rfl rfl)
abbrev cX4_find : ByteArray := prog_23_method_36_code
def yX4_find : MethodName := ⟨RX4, "find", "(II)I"⟩
def dkwX4_find_1 : List UInt8 := [148, 154, 0, 8, 21, 4, 167, 0, 4, 29, 62, 132, 4, 1, 167, 255, 223, 29, 172]
abbrev dktX4_find_1 : List UInt8 := dkwX4_find_1 ++ []
def dkwX4_find_0 : List UInt8 := [2, 62, 3, 54, 4, 21, 4, 28, 162, 0, 33, 42, 180, 0, 41, 27, 21, 4, 96, 47, 42, 180, 0, 204]
abbrev dktX4_find_0 : List UInt8 := dkwX4_find_0 ++ dktX4_find_1
theorem dksX4_find_0 : cX4_find.data.toList.drop 0 = dktX4_find_0 := by decide +kernel
theorem dksX4_find_1 : cX4_find.data.toList.drop 24 = dktX4_find_1 := dk_seg dksX4_find_0 24 rfl rfl
theorem dX4_find_0 : decode cX4_find 0 = .ok (.iconst (-1), 1) := dk_2 (dk_at dksX4_find_0 0 rfl rfl)
theorem dX4_find_1 : decode cX4_find 1 = .ok (.istore_n 3, 1) := dk_62 (dk_at dksX4_find_0 1 rfl rfl)
theorem dX4_find_2 : decode cX4_find 2 = .ok (.iconst 0, 1) := dk_3 (dk_at dksX4_find_0 2 rfl rfl)
theorem dX4_find_3 : decode cX4_find 3 = .ok (.istore 4, 2) := dk_54 4 (dk_at dksX4_find_0 3 rfl rfl)
theorem dX4_find_5 : decode cX4_find 5 = .ok (.iload 4, 2) := dk_21 4 (dk_at dksX4_find_0 5 rfl rfl)
theorem dX4_find_7 : decode cX4_find 7 = .ok (.iload_n 2, 1) := dk_28 (dk_at dksX4_find_0 7 rfl rfl)
theorem dX4_find_8 : decode cX4_find 8 = .ok (.if_icmp .ge 33, 3) := dk_162 0 33 (dk_at dksX4_find_0 8 rfl rfl)
theorem dX4_find_11 : decode cX4_find 11 = .ok (.aload_n 0, 1) := dk_42 (dk_at dksX4_find_0 11 rfl rfl)
theorem dX4_find_12 : decode cX4_find 12 = .ok (.getfield 41, 3) := dk_180 0 41 (dk_at dksX4_find_0 12 rfl rfl)
theorem dX4_find_15 : decode cX4_find 15 = .ok (.iload_n 1, 1) := dk_27 (dk_at dksX4_find_0 15 rfl rfl)
theorem dX4_find_16 : decode cX4_find 16 = .ok (.iload 4, 2) := dk_21 4 (dk_at dksX4_find_0 16 rfl rfl)
theorem dX4_find_18 : decode cX4_find 18 = .ok (.iadd, 1) := dk_96 (dk_at dksX4_find_0 18 rfl rfl)
theorem dX4_find_19 : decode cX4_find 19 = .ok (.laload, 1) := dk_47 (dk_at dksX4_find_0 19 rfl rfl)
theorem dX4_find_20 : decode cX4_find 20 = .ok (.aload_n 0, 1) := dk_42 (dk_at dksX4_find_0 20 rfl rfl)
theorem dX4_find_21 : decode cX4_find 21 = .ok (.getfield 204, 3) := dk_180 0 204 (dk_at dksX4_find_0 21 rfl rfl)
theorem dX4_find_24 : decode cX4_find 24 = .ok (.lcmp, 1) := dk_148 (dk_at dksX4_find_1 0 rfl rfl)
theorem dX4_find_25 : decode cX4_find 25 = .ok (.ifCond .ne 8, 3) := dk_154 0 8 (dk_at dksX4_find_1 1 rfl rfl)
theorem dX4_find_28 : decode cX4_find 28 = .ok (.iload 4, 2) := dk_21 4 (dk_at dksX4_find_1 4 rfl rfl)
theorem dX4_find_30 : decode cX4_find 30 = .ok (.goto 4, 3) := dk_167 0 4 (dk_at dksX4_find_1 6 rfl rfl)
theorem dX4_find_33 : decode cX4_find 33 = .ok (.iload_n 3, 1) := dk_29 (dk_at dksX4_find_1 9 rfl rfl)
theorem dX4_find_34 : decode cX4_find 34 = .ok (.istore_n 3, 1) := dk_62 (dk_at dksX4_find_1 10 rfl rfl)
theorem dX4_find_35 : decode cX4_find 35 = .ok (.iinc 4 1, 3) := dk_132 4 1 (dk_at dksX4_find_1 11 rfl rfl)
theorem dX4_find_38 : decode cX4_find 38 = .ok (.goto (-33), 3) := dk_167 255 223 (dk_at dksX4_find_1 14 rfl rfl)
theorem dX4_find_41 : decode cX4_find 41 = .ok (.iload_n 3, 1) := dk_29 (dk_at dksX4_find_1 17 rfl rfl)
theorem dX4_find_42 : decode cX4_find 42 = .ok (.ireturn, 1) := dk_172 (dk_at dksX4_find_1 18 rfl rfl)
abbrev cX4_readApple : ByteArray := prog_23_method_41_code
def yX4_readApple : MethodName := ⟨RX4, "readApple", "()V"⟩
def dkwX4_readApple_9 : List UInt8 := [79, 42, 180, 0, 224, 154, 0, 13, 42, 89, 180, 1, 144, 4, 96, 181, 1, 144, 177]
abbrev dktX4_readApple_9 : List UInt8 := dkwX4_readApple_9 ++ []
def dkwX4_readApple_8 : List UInt8 := [180, 1, 144, 42, 20, 0, 251, 182, 1, 150, 153, 0, 13, 42, 3, 16, 99, 182, 1, 41, 167, 0, 4, 4]
abbrev dktX4_readApple_8 : List UInt8 := dkwX4_readApple_8 ++ dktX4_readApple_9
def dkwX4_readApple_7 : List UInt8 := [79, 42, 180, 0, 78, 42, 180, 1, 144, 42, 20, 0, 235, 182, 1, 150, 84, 42, 180, 0, 57, 42]
abbrev dktX4_readApple_7 : List UInt8 := dkwX4_readApple_7 ++ dktX4_readApple_8
def dkwX4_readApple_6 : List UInt8 := [16, 99, 182, 1, 122, 79, 42, 180, 0, 48, 42, 180, 1, 144, 42, 20, 0, 249, 3, 16, 9, 182, 1, 122]
abbrev dktX4_readApple_6 : List UInt8 := dkwX4_readApple_6 ++ dktX4_readApple_7
def dkwX4_readApple_5 : List UInt8 := [27, 182, 1, 147, 132, 2, 1, 167, 255, 196, 42, 180, 0, 45, 42, 180, 1, 144, 42, 20, 0, 247, 4]
abbrev dktX4_readApple_5 : List UInt8 := dkwX4_readApple_5 ++ dktX4_readApple_6
def dkwX4_readApple_4 : List UInt8 := [46, 160, 0, 27, 42, 180, 0, 54, 28, 46, 42, 180, 0, 54, 42, 180, 1, 144, 46, 160, 0, 9, 42, 6]
abbrev dktX4_readApple_4 : List UInt8 := dkwX4_readApple_4 ++ dktX4_readApple_5
def dkwX4_readApple_3 : List UInt8 := [162, 0, 58, 42, 180, 0, 224, 154, 0, 45, 42, 180, 0, 51, 28, 46, 42, 180, 0, 51, 42, 180, 1, 144]
abbrev dktX4_readApple_3 : List UInt8 := dkwX4_readApple_3 ++ dktX4_readApple_4
def dkwX4_readApple_2 : List UInt8 := [42, 180, 1, 144, 42, 3, 42, 180, 1, 129, 4, 100, 182, 1, 41, 79, 3, 61, 28, 42, 180, 1, 144]
abbrev dktX4_readApple_2 : List UInt8 := dkwX4_readApple_2 ++ dktX4_readApple_3
def dkwX4_readApple_1 : List UInt8 := [180, 1, 144, 42, 3, 42, 180, 1, 126, 4, 100, 182, 1, 41, 79, 42, 180, 0, 201, 60, 42, 180, 0, 54]
abbrev dktX4_readApple_1 : List UInt8 := dkwX4_readApple_1 ++ dktX4_readApple_2
def dkwX4_readApple_0 : List UInt8 := [42, 16, 6, 42, 180, 1, 144, 182, 1, 141, 42, 20, 0, 245, 182, 1, 37, 42, 180, 0, 51, 42]
abbrev dktX4_readApple_0 : List UInt8 := dkwX4_readApple_0 ++ dktX4_readApple_1
theorem dksX4_readApple_0 : cX4_readApple.data.toList.drop 0 = dktX4_readApple_0 := by decide +kernel
theorem dksX4_readApple_1 : cX4_readApple.data.toList.drop 22 = dktX4_readApple_1 := dk_seg dksX4_readApple_0 22 rfl rfl
theorem dksX4_readApple_2 : cX4_readApple.data.toList.drop 46 = dktX4_readApple_2 := dk_seg dksX4_readApple_1 24 rfl rfl
theorem dksX4_readApple_3 : cX4_readApple.data.toList.drop 69 = dktX4_readApple_3 := dk_seg dksX4_readApple_2 23 rfl rfl
theorem dksX4_readApple_4 : cX4_readApple.data.toList.drop 93 = dktX4_readApple_4 := dk_seg dksX4_readApple_3 24 rfl rfl
theorem dksX4_readApple_5 : cX4_readApple.data.toList.drop 117 = dktX4_readApple_5 := dk_seg dksX4_readApple_4 24 rfl rfl
theorem dksX4_readApple_6 : cX4_readApple.data.toList.drop 140 = dktX4_readApple_6 := dk_seg dksX4_readApple_5 23 rfl rfl
theorem dksX4_readApple_7 : cX4_readApple.data.toList.drop 164 = dktX4_readApple_7 := dk_seg dksX4_readApple_6 24 rfl rfl
theorem dksX4_readApple_8 : cX4_readApple.data.toList.drop 186 = dktX4_readApple_8 := dk_seg dksX4_readApple_7 22 rfl rfl
theorem dksX4_readApple_9 : cX4_readApple.data.toList.drop 210 = dktX4_readApple_9 := dk_seg dksX4_readApple_8 24 rfl rfl
theorem dX4_readApple_0 : decode cX4_readApple 0 = .ok (.aload_n 0, 1) := dk_42 (dk_at dksX4_readApple_0 0 rfl rfl)
theorem dX4_readApple_1 : decode cX4_readApple 1 = .ok (.bipush 6, 2) := dk_16 6 (dk_at dksX4_readApple_0 1 rfl rfl)
theorem dX4_readApple_3 : decode cX4_readApple 3 = .ok (.aload_n 0, 1) := dk_42 (dk_at dksX4_readApple_0 3 rfl rfl)
theorem dX4_readApple_4 : decode cX4_readApple 4 = .ok (.getfield 400, 3) := dk_180 1 144 (dk_at dksX4_readApple_0 4 rfl rfl)
theorem dX4_readApple_7 : decode cX4_readApple 7 = .ok (.invokevirtual 397, 3) := dk_182 1 141 (dk_at dksX4_readApple_0 7 rfl rfl)
theorem dX4_readApple_10 : decode cX4_readApple 10 = .ok (.aload_n 0, 1) := dk_42 (dk_at dksX4_readApple_0 10 rfl rfl)
theorem dX4_readApple_11 : decode cX4_readApple 11 = .ok (.ldc2_w 245, 3) := dk_20 0 245 (dk_at dksX4_readApple_0 11 rfl rfl)
theorem dX4_readApple_14 : decode cX4_readApple 14 = .ok (.invokevirtual 293, 3) := dk_182 1 37 (dk_at dksX4_readApple_0 14 rfl rfl)
theorem dX4_readApple_17 : decode cX4_readApple 17 = .ok (.aload_n 0, 1) := dk_42 (dk_at dksX4_readApple_0 17 rfl rfl)
theorem dX4_readApple_18 : decode cX4_readApple 18 = .ok (.getfield 51, 3) := dk_180 0 51 (dk_at dksX4_readApple_0 18 rfl rfl)
theorem dX4_readApple_21 : decode cX4_readApple 21 = .ok (.aload_n 0, 1) := dk_42 (dk_at dksX4_readApple_0 21 rfl rfl)
theorem dX4_readApple_22 : decode cX4_readApple 22 = .ok (.getfield 400, 3) := dk_180 1 144 (dk_at dksX4_readApple_1 0 rfl rfl)
theorem dX4_readApple_25 : decode cX4_readApple 25 = .ok (.aload_n 0, 1) := dk_42 (dk_at dksX4_readApple_1 3 rfl rfl)
theorem dX4_readApple_26 : decode cX4_readApple 26 = .ok (.iconst 0, 1) := dk_3 (dk_at dksX4_readApple_1 4 rfl rfl)
theorem dX4_readApple_27 : decode cX4_readApple 27 = .ok (.aload_n 0, 1) := dk_42 (dk_at dksX4_readApple_1 5 rfl rfl)
theorem dX4_readApple_28 : decode cX4_readApple 28 = .ok (.getfield 382, 3) := dk_180 1 126 (dk_at dksX4_readApple_1 6 rfl rfl)
theorem dX4_readApple_31 : decode cX4_readApple 31 = .ok (.iconst 1, 1) := dk_4 (dk_at dksX4_readApple_1 9 rfl rfl)
theorem dX4_readApple_32 : decode cX4_readApple 32 = .ok (.isub, 1) := dk_100 (dk_at dksX4_readApple_1 10 rfl rfl)
theorem dX4_readApple_33 : decode cX4_readApple 33 = .ok (.invokevirtual 297, 3) := dk_182 1 41 (dk_at dksX4_readApple_1 11 rfl rfl)
theorem dX4_readApple_36 : decode cX4_readApple 36 = .ok (.iastore, 1) := dk_79 (dk_at dksX4_readApple_1 14 rfl rfl)
theorem dX4_readApple_37 : decode cX4_readApple 37 = .ok (.aload_n 0, 1) := dk_42 (dk_at dksX4_readApple_1 15 rfl rfl)
theorem dX4_readApple_38 : decode cX4_readApple 38 = .ok (.getfield 201, 3) := dk_180 0 201 (dk_at dksX4_readApple_1 16 rfl rfl)
theorem dX4_readApple_41 : decode cX4_readApple 41 = .ok (.istore_n 1, 1) := dk_60 (dk_at dksX4_readApple_1 19 rfl rfl)
theorem dX4_readApple_42 : decode cX4_readApple 42 = .ok (.aload_n 0, 1) := dk_42 (dk_at dksX4_readApple_1 20 rfl rfl)
theorem dX4_readApple_43 : decode cX4_readApple 43 = .ok (.getfield 54, 3) := dk_180 0 54 (dk_at dksX4_readApple_1 21 rfl rfl)
theorem dX4_readApple_46 : decode cX4_readApple 46 = .ok (.aload_n 0, 1) := dk_42 (dk_at dksX4_readApple_2 0 rfl rfl)
theorem dX4_readApple_47 : decode cX4_readApple 47 = .ok (.getfield 400, 3) := dk_180 1 144 (dk_at dksX4_readApple_2 1 rfl rfl)
theorem dX4_readApple_50 : decode cX4_readApple 50 = .ok (.aload_n 0, 1) := dk_42 (dk_at dksX4_readApple_2 4 rfl rfl)
theorem dX4_readApple_51 : decode cX4_readApple 51 = .ok (.iconst 0, 1) := dk_3 (dk_at dksX4_readApple_2 5 rfl rfl)
theorem dX4_readApple_52 : decode cX4_readApple 52 = .ok (.aload_n 0, 1) := dk_42 (dk_at dksX4_readApple_2 6 rfl rfl)
theorem dX4_readApple_53 : decode cX4_readApple 53 = .ok (.getfield 385, 3) := dk_180 1 129 (dk_at dksX4_readApple_2 7 rfl rfl)
theorem dX4_readApple_56 : decode cX4_readApple 56 = .ok (.iconst 1, 1) := dk_4 (dk_at dksX4_readApple_2 10 rfl rfl)
theorem dX4_readApple_57 : decode cX4_readApple 57 = .ok (.isub, 1) := dk_100 (dk_at dksX4_readApple_2 11 rfl rfl)
theorem dX4_readApple_58 : decode cX4_readApple 58 = .ok (.invokevirtual 297, 3) := dk_182 1 41 (dk_at dksX4_readApple_2 12 rfl rfl)
theorem dX4_readApple_61 : decode cX4_readApple 61 = .ok (.iastore, 1) := dk_79 (dk_at dksX4_readApple_2 15 rfl rfl)
theorem dX4_readApple_62 : decode cX4_readApple 62 = .ok (.iconst 0, 1) := dk_3 (dk_at dksX4_readApple_2 16 rfl rfl)
theorem dX4_readApple_63 : decode cX4_readApple 63 = .ok (.istore_n 2, 1) := dk_61 (dk_at dksX4_readApple_2 17 rfl rfl)
theorem dX4_readApple_64 : decode cX4_readApple 64 = .ok (.iload_n 2, 1) := dk_28 (dk_at dksX4_readApple_2 18 rfl rfl)
theorem dX4_readApple_65 : decode cX4_readApple 65 = .ok (.aload_n 0, 1) := dk_42 (dk_at dksX4_readApple_2 19 rfl rfl)
theorem dX4_readApple_66 : decode cX4_readApple 66 = .ok (.getfield 400, 3) := dk_180 1 144 (dk_at dksX4_readApple_2 20 rfl rfl)
theorem dX4_readApple_69 : decode cX4_readApple 69 = .ok (.if_icmp .ge 58, 3) := dk_162 0 58 (dk_at dksX4_readApple_3 0 rfl rfl)
theorem dX4_readApple_72 : decode cX4_readApple 72 = .ok (.aload_n 0, 1) := dk_42 (dk_at dksX4_readApple_3 3 rfl rfl)
theorem dX4_readApple_73 : decode cX4_readApple 73 = .ok (.getfield 224, 3) := dk_180 0 224 (dk_at dksX4_readApple_3 4 rfl rfl)
theorem dX4_readApple_76 : decode cX4_readApple 76 = .ok (.ifCond .ne 45, 3) := dk_154 0 45 (dk_at dksX4_readApple_3 7 rfl rfl)
theorem dX4_readApple_79 : decode cX4_readApple 79 = .ok (.aload_n 0, 1) := dk_42 (dk_at dksX4_readApple_3 10 rfl rfl)
theorem dX4_readApple_80 : decode cX4_readApple 80 = .ok (.getfield 51, 3) := dk_180 0 51 (dk_at dksX4_readApple_3 11 rfl rfl)
theorem dX4_readApple_83 : decode cX4_readApple 83 = .ok (.iload_n 2, 1) := dk_28 (dk_at dksX4_readApple_3 14 rfl rfl)
theorem dX4_readApple_84 : decode cX4_readApple 84 = .ok (.iaload, 1) := dk_46 (dk_at dksX4_readApple_3 15 rfl rfl)
theorem dX4_readApple_85 : decode cX4_readApple 85 = .ok (.aload_n 0, 1) := dk_42 (dk_at dksX4_readApple_3 16 rfl rfl)
theorem dX4_readApple_86 : decode cX4_readApple 86 = .ok (.getfield 51, 3) := dk_180 0 51 (dk_at dksX4_readApple_3 17 rfl rfl)
theorem dX4_readApple_89 : decode cX4_readApple 89 = .ok (.aload_n 0, 1) := dk_42 (dk_at dksX4_readApple_3 20 rfl rfl)
theorem dX4_readApple_90 : decode cX4_readApple 90 = .ok (.getfield 400, 3) := dk_180 1 144 (dk_at dksX4_readApple_3 21 rfl rfl)
theorem dX4_readApple_93 : decode cX4_readApple 93 = .ok (.iaload, 1) := dk_46 (dk_at dksX4_readApple_4 0 rfl rfl)
theorem dX4_readApple_94 : decode cX4_readApple 94 = .ok (.if_icmp .ne 27, 3) := dk_160 0 27 (dk_at dksX4_readApple_4 1 rfl rfl)
theorem dX4_readApple_97 : decode cX4_readApple 97 = .ok (.aload_n 0, 1) := dk_42 (dk_at dksX4_readApple_4 4 rfl rfl)
theorem dX4_readApple_98 : decode cX4_readApple 98 = .ok (.getfield 54, 3) := dk_180 0 54 (dk_at dksX4_readApple_4 5 rfl rfl)
theorem dX4_readApple_101 : decode cX4_readApple 101 = .ok (.iload_n 2, 1) := dk_28 (dk_at dksX4_readApple_4 8 rfl rfl)
theorem dX4_readApple_102 : decode cX4_readApple 102 = .ok (.iaload, 1) := dk_46 (dk_at dksX4_readApple_4 9 rfl rfl)
theorem dX4_readApple_103 : decode cX4_readApple 103 = .ok (.aload_n 0, 1) := dk_42 (dk_at dksX4_readApple_4 10 rfl rfl)
theorem dX4_readApple_104 : decode cX4_readApple 104 = .ok (.getfield 54, 3) := dk_180 0 54 (dk_at dksX4_readApple_4 11 rfl rfl)
theorem dX4_readApple_107 : decode cX4_readApple 107 = .ok (.aload_n 0, 1) := dk_42 (dk_at dksX4_readApple_4 14 rfl rfl)
theorem dX4_readApple_108 : decode cX4_readApple 108 = .ok (.getfield 400, 3) := dk_180 1 144 (dk_at dksX4_readApple_4 15 rfl rfl)
theorem dX4_readApple_111 : decode cX4_readApple 111 = .ok (.iaload, 1) := dk_46 (dk_at dksX4_readApple_4 18 rfl rfl)
theorem dX4_readApple_112 : decode cX4_readApple 112 = .ok (.if_icmp .ne 9, 3) := dk_160 0 9 (dk_at dksX4_readApple_4 19 rfl rfl)
theorem dX4_readApple_115 : decode cX4_readApple 115 = .ok (.aload_n 0, 1) := dk_42 (dk_at dksX4_readApple_4 22 rfl rfl)
theorem dX4_readApple_116 : decode cX4_readApple 116 = .ok (.iconst 3, 1) := dk_6 (dk_at dksX4_readApple_4 23 rfl rfl)
theorem dX4_readApple_117 : decode cX4_readApple 117 = .ok (.iload_n 1, 1) := dk_27 (dk_at dksX4_readApple_5 0 rfl rfl)
theorem dX4_readApple_118 : decode cX4_readApple 118 = .ok (.invokevirtual 403, 3) := dk_182 1 147 (dk_at dksX4_readApple_5 1 rfl rfl)
theorem dX4_readApple_121 : decode cX4_readApple 121 = .ok (.iinc 2 1, 3) := dk_132 2 1 (dk_at dksX4_readApple_5 4 rfl rfl)
theorem dX4_readApple_124 : decode cX4_readApple 124 = .ok (.goto (-60), 3) := dk_167 255 196 (dk_at dksX4_readApple_5 7 rfl rfl)
theorem dX4_readApple_127 : decode cX4_readApple 127 = .ok (.aload_n 0, 1) := dk_42 (dk_at dksX4_readApple_5 10 rfl rfl)
theorem dX4_readApple_128 : decode cX4_readApple 128 = .ok (.getfield 45, 3) := dk_180 0 45 (dk_at dksX4_readApple_5 11 rfl rfl)
theorem dX4_readApple_131 : decode cX4_readApple 131 = .ok (.aload_n 0, 1) := dk_42 (dk_at dksX4_readApple_5 14 rfl rfl)
theorem dX4_readApple_132 : decode cX4_readApple 132 = .ok (.getfield 400, 3) := dk_180 1 144 (dk_at dksX4_readApple_5 15 rfl rfl)
theorem dX4_readApple_135 : decode cX4_readApple 135 = .ok (.aload_n 0, 1) := dk_42 (dk_at dksX4_readApple_5 18 rfl rfl)
theorem dX4_readApple_136 : decode cX4_readApple 136 = .ok (.ldc2_w 247, 3) := dk_20 0 247 (dk_at dksX4_readApple_5 19 rfl rfl)
theorem dX4_readApple_139 : decode cX4_readApple 139 = .ok (.iconst 1, 1) := dk_4 (dk_at dksX4_readApple_5 22 rfl rfl)
theorem dX4_readApple_140 : decode cX4_readApple 140 = .ok (.bipush 99, 2) := dk_16 99 (dk_at dksX4_readApple_6 0 rfl rfl)
theorem dX4_readApple_142 : decode cX4_readApple 142 = .ok (.invokevirtual 378, 3) := dk_182 1 122 (dk_at dksX4_readApple_6 2 rfl rfl)
theorem dX4_readApple_145 : decode cX4_readApple 145 = .ok (.iastore, 1) := dk_79 (dk_at dksX4_readApple_6 5 rfl rfl)
theorem dX4_readApple_146 : decode cX4_readApple 146 = .ok (.aload_n 0, 1) := dk_42 (dk_at dksX4_readApple_6 6 rfl rfl)
theorem dX4_readApple_147 : decode cX4_readApple 147 = .ok (.getfield 48, 3) := dk_180 0 48 (dk_at dksX4_readApple_6 7 rfl rfl)
theorem dX4_readApple_150 : decode cX4_readApple 150 = .ok (.aload_n 0, 1) := dk_42 (dk_at dksX4_readApple_6 10 rfl rfl)
theorem dX4_readApple_151 : decode cX4_readApple 151 = .ok (.getfield 400, 3) := dk_180 1 144 (dk_at dksX4_readApple_6 11 rfl rfl)
theorem dX4_readApple_154 : decode cX4_readApple 154 = .ok (.aload_n 0, 1) := dk_42 (dk_at dksX4_readApple_6 14 rfl rfl)
theorem dX4_readApple_155 : decode cX4_readApple 155 = .ok (.ldc2_w 249, 3) := dk_20 0 249 (dk_at dksX4_readApple_6 15 rfl rfl)
theorem dX4_readApple_158 : decode cX4_readApple 158 = .ok (.iconst 0, 1) := dk_3 (dk_at dksX4_readApple_6 18 rfl rfl)
theorem dX4_readApple_159 : decode cX4_readApple 159 = .ok (.bipush 9, 2) := dk_16 9 (dk_at dksX4_readApple_6 19 rfl rfl)
theorem dX4_readApple_161 : decode cX4_readApple 161 = .ok (.invokevirtual 378, 3) := dk_182 1 122 (dk_at dksX4_readApple_6 21 rfl rfl)
theorem dX4_readApple_164 : decode cX4_readApple 164 = .ok (.iastore, 1) := dk_79 (dk_at dksX4_readApple_7 0 rfl rfl)
theorem dX4_readApple_165 : decode cX4_readApple 165 = .ok (.aload_n 0, 1) := dk_42 (dk_at dksX4_readApple_7 1 rfl rfl)
theorem dX4_readApple_166 : decode cX4_readApple 166 = .ok (.getfield 78, 3) := dk_180 0 78 (dk_at dksX4_readApple_7 2 rfl rfl)
theorem dX4_readApple_169 : decode cX4_readApple 169 = .ok (.aload_n 0, 1) := dk_42 (dk_at dksX4_readApple_7 5 rfl rfl)
theorem dX4_readApple_170 : decode cX4_readApple 170 = .ok (.getfield 400, 3) := dk_180 1 144 (dk_at dksX4_readApple_7 6 rfl rfl)
theorem dX4_readApple_173 : decode cX4_readApple 173 = .ok (.aload_n 0, 1) := dk_42 (dk_at dksX4_readApple_7 9 rfl rfl)
theorem dX4_readApple_174 : decode cX4_readApple 174 = .ok (.ldc2_w 235, 3) := dk_20 0 235 (dk_at dksX4_readApple_7 10 rfl rfl)
theorem dX4_readApple_177 : decode cX4_readApple 177 = .ok (.invokevirtual 406, 3) := dk_182 1 150 (dk_at dksX4_readApple_7 13 rfl rfl)
theorem dX4_readApple_180 : decode cX4_readApple 180 = .ok (.bastore, 1) := dk_84 (dk_at dksX4_readApple_7 16 rfl rfl)
theorem dX4_readApple_181 : decode cX4_readApple 181 = .ok (.aload_n 0, 1) := dk_42 (dk_at dksX4_readApple_7 17 rfl rfl)
theorem dX4_readApple_182 : decode cX4_readApple 182 = .ok (.getfield 57, 3) := dk_180 0 57 (dk_at dksX4_readApple_7 18 rfl rfl)
theorem dX4_readApple_185 : decode cX4_readApple 185 = .ok (.aload_n 0, 1) := dk_42 (dk_at dksX4_readApple_7 21 rfl rfl)
theorem dX4_readApple_186 : decode cX4_readApple 186 = .ok (.getfield 400, 3) := dk_180 1 144 (dk_at dksX4_readApple_8 0 rfl rfl)
theorem dX4_readApple_189 : decode cX4_readApple 189 = .ok (.aload_n 0, 1) := dk_42 (dk_at dksX4_readApple_8 3 rfl rfl)
theorem dX4_readApple_190 : decode cX4_readApple 190 = .ok (.ldc2_w 251, 3) := dk_20 0 251 (dk_at dksX4_readApple_8 4 rfl rfl)
theorem dX4_readApple_193 : decode cX4_readApple 193 = .ok (.invokevirtual 406, 3) := dk_182 1 150 (dk_at dksX4_readApple_8 7 rfl rfl)
theorem dX4_readApple_196 : decode cX4_readApple 196 = .ok (.ifCond .eq 13, 3) := dk_153 0 13 (dk_at dksX4_readApple_8 10 rfl rfl)
theorem dX4_readApple_199 : decode cX4_readApple 199 = .ok (.aload_n 0, 1) := dk_42 (dk_at dksX4_readApple_8 13 rfl rfl)
theorem dX4_readApple_200 : decode cX4_readApple 200 = .ok (.iconst 0, 1) := dk_3 (dk_at dksX4_readApple_8 14 rfl rfl)
theorem dX4_readApple_201 : decode cX4_readApple 201 = .ok (.bipush 99, 2) := dk_16 99 (dk_at dksX4_readApple_8 15 rfl rfl)
theorem dX4_readApple_203 : decode cX4_readApple 203 = .ok (.invokevirtual 297, 3) := dk_182 1 41 (dk_at dksX4_readApple_8 17 rfl rfl)
theorem dX4_readApple_206 : decode cX4_readApple 206 = .ok (.goto 4, 3) := dk_167 0 4 (dk_at dksX4_readApple_8 20 rfl rfl)
theorem dX4_readApple_209 : decode cX4_readApple 209 = .ok (.iconst 1, 1) := dk_4 (dk_at dksX4_readApple_8 23 rfl rfl)
theorem dX4_readApple_210 : decode cX4_readApple 210 = .ok (.iastore, 1) := dk_79 (dk_at dksX4_readApple_9 0 rfl rfl)
theorem dX4_readApple_211 : decode cX4_readApple 211 = .ok (.aload_n 0, 1) := dk_42 (dk_at dksX4_readApple_9 1 rfl rfl)
theorem dX4_readApple_212 : decode cX4_readApple 212 = .ok (.getfield 224, 3) := dk_180 0 224 (dk_at dksX4_readApple_9 2 rfl rfl)
theorem dX4_readApple_215 : decode cX4_readApple 215 = .ok (.ifCond .ne 13, 3) := dk_154 0 13 (dk_at dksX4_readApple_9 5 rfl rfl)
theorem dX4_readApple_218 : decode cX4_readApple 218 = .ok (.aload_n 0, 1) := dk_42 (dk_at dksX4_readApple_9 8 rfl rfl)
theorem dX4_readApple_219 : decode cX4_readApple 219 = .ok (.dup, 1) := dk_89 (dk_at dksX4_readApple_9 9 rfl rfl)
theorem dX4_readApple_220 : decode cX4_readApple 220 = .ok (.getfield 400, 3) := dk_180 1 144 (dk_at dksX4_readApple_9 10 rfl rfl)
theorem dX4_readApple_223 : decode cX4_readApple 223 = .ok (.iconst 1, 1) := dk_4 (dk_at dksX4_readApple_9 13 rfl rfl)
theorem dX4_readApple_224 : decode cX4_readApple 224 = .ok (.iadd, 1) := dk_96 (dk_at dksX4_readApple_9 14 rfl rfl)
theorem dX4_readApple_225 : decode cX4_readApple 225 = .ok (.putfield 400, 3) := dk_181 1 144 (dk_at dksX4_readApple_9 15 rfl rfl)
theorem dX4_readApple_228 : decode cX4_readApple 228 = .ok (.return_, 1) := dk_177 (dk_at dksX4_readApple_9 18 rfl rfl)
abbrev cX4_wrongAt : ByteArray := prog_23_method_11_code
def yX4_wrongAt : MethodName := ⟨RX4, "wrongAt", "(II)V"⟩
def dkwX4_wrongAt_0 : List UInt8 := [42, 180, 0, 224, 158, 0, 4, 177, 42, 27, 181, 0, 224, 42, 28, 181, 0, 13, 177]
abbrev dktX4_wrongAt_0 : List UInt8 := dkwX4_wrongAt_0 ++ []
theorem dksX4_wrongAt_0 : cX4_wrongAt.data.toList.drop 0 = dktX4_wrongAt_0 := by decide +kernel
theorem dX4_wrongAt_0 : decode cX4_wrongAt 0 = .ok (.aload_n 0, 1) := dk_42 (dk_at dksX4_wrongAt_0 0 rfl rfl)
theorem dX4_wrongAt_1 : decode cX4_wrongAt 1 = .ok (.getfield 224, 3) := dk_180 0 224 (dk_at dksX4_wrongAt_0 1 rfl rfl)
theorem dX4_wrongAt_4 : decode cX4_wrongAt 4 = .ok (.ifCond .le 4, 3) := dk_158 0 4 (dk_at dksX4_wrongAt_0 4 rfl rfl)
theorem dX4_wrongAt_7 : decode cX4_wrongAt 7 = .ok (.return_, 1) := dk_177 (dk_at dksX4_wrongAt_0 7 rfl rfl)
theorem dX4_wrongAt_8 : decode cX4_wrongAt 8 = .ok (.aload_n 0, 1) := dk_42 (dk_at dksX4_wrongAt_0 8 rfl rfl)
theorem dX4_wrongAt_9 : decode cX4_wrongAt 9 = .ok (.iload_n 1, 1) := dk_27 (dk_at dksX4_wrongAt_0 9 rfl rfl)
theorem dX4_wrongAt_10 : decode cX4_wrongAt 10 = .ok (.putfield 224, 3) := dk_181 0 224 (dk_at dksX4_wrongAt_0 10 rfl rfl)
theorem dX4_wrongAt_13 : decode cX4_wrongAt 13 = .ok (.aload_n 0, 1) := dk_42 (dk_at dksX4_wrongAt_0 13 rfl rfl)
theorem dX4_wrongAt_14 : decode cX4_wrongAt 14 = .ok (.iload_n 2, 1) := dk_28 (dk_at dksX4_wrongAt_0 14 rfl rfl)
theorem dX4_wrongAt_15 : decode cX4_wrongAt 15 = .ok (.putfield 13, 3) := dk_181 0 13 (dk_at dksX4_wrongAt_0 15 rfl rfl)
theorem dX4_wrongAt_18 : decode cX4_wrongAt 18 = .ok (.return_, 1) := dk_177 (dk_at dksX4_wrongAt_0 18 rfl rfl)
abbrev cX4_takes : ByteArray := prog_23_method_15_code
def yX4_takes : MethodName := ⟨RX4, "takes", "(J)Z"⟩
def dkwX4_takes_1 : List UInt8 := [153, 0, 7, 42, 182, 1, 31, 29, 172]
abbrev dktX4_takes_1 : List UInt8 := dkwX4_takes_1 ++ []
def dkwX4_takes_0 : List UInt8 := [42, 180, 0, 224, 154, 0, 15, 42, 31, 182, 1, 27, 153, 0, 7, 4, 167, 0, 4, 3, 62, 29]
abbrev dktX4_takes_0 : List UInt8 := dkwX4_takes_0 ++ dktX4_takes_1
theorem dksX4_takes_0 : cX4_takes.data.toList.drop 0 = dktX4_takes_0 := by decide +kernel
theorem dksX4_takes_1 : cX4_takes.data.toList.drop 22 = dktX4_takes_1 := dk_seg dksX4_takes_0 22 rfl rfl
theorem dX4_takes_0 : decode cX4_takes 0 = .ok (.aload_n 0, 1) := dk_42 (dk_at dksX4_takes_0 0 rfl rfl)
theorem dX4_takes_1 : decode cX4_takes 1 = .ok (.getfield 224, 3) := dk_180 0 224 (dk_at dksX4_takes_0 1 rfl rfl)
theorem dX4_takes_4 : decode cX4_takes 4 = .ok (.ifCond .ne 15, 3) := dk_154 0 15 (dk_at dksX4_takes_0 4 rfl rfl)
theorem dX4_takes_7 : decode cX4_takes 7 = .ok (.aload_n 0, 1) := dk_42 (dk_at dksX4_takes_0 7 rfl rfl)
theorem dX4_takes_8 : decode cX4_takes 8 = .ok (.lload_n 1, 1) := dk_31 (dk_at dksX4_takes_0 8 rfl rfl)
theorem dX4_takes_9 : decode cX4_takes 9 = .ok (.invokevirtual 283, 3) := dk_182 1 27 (dk_at dksX4_takes_0 9 rfl rfl)
theorem dX4_takes_12 : decode cX4_takes 12 = .ok (.ifCond .eq 7, 3) := dk_153 0 7 (dk_at dksX4_takes_0 12 rfl rfl)
theorem dX4_takes_15 : decode cX4_takes 15 = .ok (.iconst 1, 1) := dk_4 (dk_at dksX4_takes_0 15 rfl rfl)
theorem dX4_takes_16 : decode cX4_takes 16 = .ok (.goto 4, 3) := dk_167 0 4 (dk_at dksX4_takes_0 16 rfl rfl)
theorem dX4_takes_19 : decode cX4_takes 19 = .ok (.iconst 0, 1) := dk_3 (dk_at dksX4_takes_0 19 rfl rfl)
theorem dX4_takes_20 : decode cX4_takes 20 = .ok (.istore_n 3, 1) := dk_62 (dk_at dksX4_takes_0 20 rfl rfl)
theorem dX4_takes_21 : decode cX4_takes 21 = .ok (.iload_n 3, 1) := dk_29 (dk_at dksX4_takes_0 21 rfl rfl)
theorem dX4_takes_22 : decode cX4_takes 22 = .ok (.ifCond .eq 7, 3) := dk_153 0 7 (dk_at dksX4_takes_1 0 rfl rfl)
theorem dX4_takes_25 : decode cX4_takes 25 = .ok (.aload_n 0, 1) := dk_42 (dk_at dksX4_takes_1 3 rfl rfl)
theorem dX4_takes_26 : decode cX4_takes 26 = .ok (.invokevirtual 287, 3) := dk_182 1 31 (dk_at dksX4_takes_1 4 rfl rfl)
theorem dX4_takes_29 : decode cX4_takes 29 = .ok (.iload_n 3, 1) := dk_29 (dk_at dksX4_takes_1 7 rfl rfl)
theorem dX4_takes_30 : decode cX4_takes 30 = .ok (.ireturn, 1) := dk_172 (dk_at dksX4_takes_1 8 rfl rfl)
abbrev cX4_readBobber : ByteArray := prog_23_method_42_code
def yX4_readBobber : MethodName := ⟨RX4, "readBobber", "()V"⟩
def dkwX4_readBobber_6 : List UInt8 := [154, 0, 13, 42, 89, 180, 1, 153, 4, 96, 181, 1, 153, 177]
abbrev dktX4_readBobber_6 : List UInt8 := dkwX4_readBobber_6 ++ []
def dkwX4_readBobber_5 : List UInt8 := [180, 1, 153, 3, 79, 42, 20, 0, 229, 182, 1, 150, 153, 0, 7, 42, 182, 1, 156, 42, 180, 0, 224]
abbrev dktX4_readBobber_5 : List UInt8 := dkwX4_readBobber_5 ++ dktX4_readBobber_6
def dkwX4_readBobber_4 : List UInt8 := [42, 180, 0, 72, 42, 180, 1, 153, 42, 20, 1, 3, 3, 16, 9, 182, 1, 122, 79, 42, 180, 0, 75, 42]
abbrev dktX4_readBobber_4 : List UInt8 := dkwX4_readBobber_4 ++ dktX4_readBobber_5
def dkwX4_readBobber_3 : List UInt8 := [8, 182, 1, 122, 79, 42, 180, 0, 69, 42, 180, 1, 153, 42, 20, 1, 1, 3, 16, 20, 182, 1, 122, 79]
abbrev dktX4_readBobber_3 : List UInt8 := dkwX4_readBobber_3 ++ dktX4_readBobber_4
def dkwX4_readBobber_2 : List UInt8 := [3, 42, 180, 1, 129, 4, 100, 182, 1, 41, 79, 42, 180, 0, 66, 42, 180, 1, 153, 42, 20, 0, 255, 3]
abbrev dktX4_readBobber_2 : List UInt8 := dkwX4_readBobber_2 ++ dktX4_readBobber_3
def dkwX4_readBobber_1 : List UInt8 := [180, 1, 153, 42, 3, 42, 180, 1, 126, 4, 100, 182, 1, 41, 79, 42, 180, 0, 63, 42, 180, 1, 153, 42]
abbrev dktX4_readBobber_1 : List UInt8 := dkwX4_readBobber_1 ++ dktX4_readBobber_2
def dkwX4_readBobber_0 : List UInt8 := [42, 16, 16, 42, 180, 1, 153, 182, 1, 141, 42, 20, 0, 245, 182, 1, 37, 42, 180, 0, 60, 42]
abbrev dktX4_readBobber_0 : List UInt8 := dkwX4_readBobber_0 ++ dktX4_readBobber_1
theorem dksX4_readBobber_0 : cX4_readBobber.data.toList.drop 0 = dktX4_readBobber_0 := by decide +kernel
theorem dksX4_readBobber_1 : cX4_readBobber.data.toList.drop 22 = dktX4_readBobber_1 := dk_seg dksX4_readBobber_0 22 rfl rfl
theorem dksX4_readBobber_2 : cX4_readBobber.data.toList.drop 46 = dktX4_readBobber_2 := dk_seg dksX4_readBobber_1 24 rfl rfl
theorem dksX4_readBobber_3 : cX4_readBobber.data.toList.drop 70 = dktX4_readBobber_3 := dk_seg dksX4_readBobber_2 24 rfl rfl
theorem dksX4_readBobber_4 : cX4_readBobber.data.toList.drop 94 = dktX4_readBobber_4 := dk_seg dksX4_readBobber_3 24 rfl rfl
theorem dksX4_readBobber_5 : cX4_readBobber.data.toList.drop 118 = dktX4_readBobber_5 := dk_seg dksX4_readBobber_4 24 rfl rfl
theorem dksX4_readBobber_6 : cX4_readBobber.data.toList.drop 141 = dktX4_readBobber_6 := dk_seg dksX4_readBobber_5 23 rfl rfl
theorem dX4_readBobber_0 : decode cX4_readBobber 0 = .ok (.aload_n 0, 1) := dk_42 (dk_at dksX4_readBobber_0 0 rfl rfl)
theorem dX4_readBobber_1 : decode cX4_readBobber 1 = .ok (.bipush 16, 2) := dk_16 16 (dk_at dksX4_readBobber_0 1 rfl rfl)
theorem dX4_readBobber_3 : decode cX4_readBobber 3 = .ok (.aload_n 0, 1) := dk_42 (dk_at dksX4_readBobber_0 3 rfl rfl)
theorem dX4_readBobber_4 : decode cX4_readBobber 4 = .ok (.getfield 409, 3) := dk_180 1 153 (dk_at dksX4_readBobber_0 4 rfl rfl)
theorem dX4_readBobber_7 : decode cX4_readBobber 7 = .ok (.invokevirtual 397, 3) := dk_182 1 141 (dk_at dksX4_readBobber_0 7 rfl rfl)
theorem dX4_readBobber_10 : decode cX4_readBobber 10 = .ok (.aload_n 0, 1) := dk_42 (dk_at dksX4_readBobber_0 10 rfl rfl)
theorem dX4_readBobber_11 : decode cX4_readBobber 11 = .ok (.ldc2_w 245, 3) := dk_20 0 245 (dk_at dksX4_readBobber_0 11 rfl rfl)
theorem dX4_readBobber_14 : decode cX4_readBobber 14 = .ok (.invokevirtual 293, 3) := dk_182 1 37 (dk_at dksX4_readBobber_0 14 rfl rfl)
theorem dX4_readBobber_17 : decode cX4_readBobber 17 = .ok (.aload_n 0, 1) := dk_42 (dk_at dksX4_readBobber_0 17 rfl rfl)
theorem dX4_readBobber_18 : decode cX4_readBobber 18 = .ok (.getfield 60, 3) := dk_180 0 60 (dk_at dksX4_readBobber_0 18 rfl rfl)
theorem dX4_readBobber_21 : decode cX4_readBobber 21 = .ok (.aload_n 0, 1) := dk_42 (dk_at dksX4_readBobber_0 21 rfl rfl)
theorem dX4_readBobber_22 : decode cX4_readBobber 22 = .ok (.getfield 409, 3) := dk_180 1 153 (dk_at dksX4_readBobber_1 0 rfl rfl)
theorem dX4_readBobber_25 : decode cX4_readBobber 25 = .ok (.aload_n 0, 1) := dk_42 (dk_at dksX4_readBobber_1 3 rfl rfl)
theorem dX4_readBobber_26 : decode cX4_readBobber 26 = .ok (.iconst 0, 1) := dk_3 (dk_at dksX4_readBobber_1 4 rfl rfl)
theorem dX4_readBobber_27 : decode cX4_readBobber 27 = .ok (.aload_n 0, 1) := dk_42 (dk_at dksX4_readBobber_1 5 rfl rfl)
theorem dX4_readBobber_28 : decode cX4_readBobber 28 = .ok (.getfield 382, 3) := dk_180 1 126 (dk_at dksX4_readBobber_1 6 rfl rfl)
theorem dX4_readBobber_31 : decode cX4_readBobber 31 = .ok (.iconst 1, 1) := dk_4 (dk_at dksX4_readBobber_1 9 rfl rfl)
theorem dX4_readBobber_32 : decode cX4_readBobber 32 = .ok (.isub, 1) := dk_100 (dk_at dksX4_readBobber_1 10 rfl rfl)
theorem dX4_readBobber_33 : decode cX4_readBobber 33 = .ok (.invokevirtual 297, 3) := dk_182 1 41 (dk_at dksX4_readBobber_1 11 rfl rfl)
theorem dX4_readBobber_36 : decode cX4_readBobber 36 = .ok (.iastore, 1) := dk_79 (dk_at dksX4_readBobber_1 14 rfl rfl)
theorem dX4_readBobber_37 : decode cX4_readBobber 37 = .ok (.aload_n 0, 1) := dk_42 (dk_at dksX4_readBobber_1 15 rfl rfl)
theorem dX4_readBobber_38 : decode cX4_readBobber 38 = .ok (.getfield 63, 3) := dk_180 0 63 (dk_at dksX4_readBobber_1 16 rfl rfl)
theorem dX4_readBobber_41 : decode cX4_readBobber 41 = .ok (.aload_n 0, 1) := dk_42 (dk_at dksX4_readBobber_1 19 rfl rfl)
theorem dX4_readBobber_42 : decode cX4_readBobber 42 = .ok (.getfield 409, 3) := dk_180 1 153 (dk_at dksX4_readBobber_1 20 rfl rfl)
theorem dX4_readBobber_45 : decode cX4_readBobber 45 = .ok (.aload_n 0, 1) := dk_42 (dk_at dksX4_readBobber_1 23 rfl rfl)
theorem dX4_readBobber_46 : decode cX4_readBobber 46 = .ok (.iconst 0, 1) := dk_3 (dk_at dksX4_readBobber_2 0 rfl rfl)
theorem dX4_readBobber_47 : decode cX4_readBobber 47 = .ok (.aload_n 0, 1) := dk_42 (dk_at dksX4_readBobber_2 1 rfl rfl)
theorem dX4_readBobber_48 : decode cX4_readBobber 48 = .ok (.getfield 385, 3) := dk_180 1 129 (dk_at dksX4_readBobber_2 2 rfl rfl)
theorem dX4_readBobber_51 : decode cX4_readBobber 51 = .ok (.iconst 1, 1) := dk_4 (dk_at dksX4_readBobber_2 5 rfl rfl)
theorem dX4_readBobber_52 : decode cX4_readBobber 52 = .ok (.isub, 1) := dk_100 (dk_at dksX4_readBobber_2 6 rfl rfl)
theorem dX4_readBobber_53 : decode cX4_readBobber 53 = .ok (.invokevirtual 297, 3) := dk_182 1 41 (dk_at dksX4_readBobber_2 7 rfl rfl)
theorem dX4_readBobber_56 : decode cX4_readBobber 56 = .ok (.iastore, 1) := dk_79 (dk_at dksX4_readBobber_2 10 rfl rfl)
theorem dX4_readBobber_57 : decode cX4_readBobber 57 = .ok (.aload_n 0, 1) := dk_42 (dk_at dksX4_readBobber_2 11 rfl rfl)
theorem dX4_readBobber_58 : decode cX4_readBobber 58 = .ok (.getfield 66, 3) := dk_180 0 66 (dk_at dksX4_readBobber_2 12 rfl rfl)
theorem dX4_readBobber_61 : decode cX4_readBobber 61 = .ok (.aload_n 0, 1) := dk_42 (dk_at dksX4_readBobber_2 15 rfl rfl)
theorem dX4_readBobber_62 : decode cX4_readBobber 62 = .ok (.getfield 409, 3) := dk_180 1 153 (dk_at dksX4_readBobber_2 16 rfl rfl)
theorem dX4_readBobber_65 : decode cX4_readBobber 65 = .ok (.aload_n 0, 1) := dk_42 (dk_at dksX4_readBobber_2 19 rfl rfl)
theorem dX4_readBobber_66 : decode cX4_readBobber 66 = .ok (.ldc2_w 255, 3) := dk_20 0 255 (dk_at dksX4_readBobber_2 20 rfl rfl)
theorem dX4_readBobber_69 : decode cX4_readBobber 69 = .ok (.iconst 0, 1) := dk_3 (dk_at dksX4_readBobber_2 23 rfl rfl)
theorem dX4_readBobber_70 : decode cX4_readBobber 70 = .ok (.iconst 5, 1) := dk_8 (dk_at dksX4_readBobber_3 0 rfl rfl)
theorem dX4_readBobber_71 : decode cX4_readBobber 71 = .ok (.invokevirtual 378, 3) := dk_182 1 122 (dk_at dksX4_readBobber_3 1 rfl rfl)
theorem dX4_readBobber_74 : decode cX4_readBobber 74 = .ok (.iastore, 1) := dk_79 (dk_at dksX4_readBobber_3 4 rfl rfl)
theorem dX4_readBobber_75 : decode cX4_readBobber 75 = .ok (.aload_n 0, 1) := dk_42 (dk_at dksX4_readBobber_3 5 rfl rfl)
theorem dX4_readBobber_76 : decode cX4_readBobber 76 = .ok (.getfield 69, 3) := dk_180 0 69 (dk_at dksX4_readBobber_3 6 rfl rfl)
theorem dX4_readBobber_79 : decode cX4_readBobber 79 = .ok (.aload_n 0, 1) := dk_42 (dk_at dksX4_readBobber_3 9 rfl rfl)
theorem dX4_readBobber_80 : decode cX4_readBobber 80 = .ok (.getfield 409, 3) := dk_180 1 153 (dk_at dksX4_readBobber_3 10 rfl rfl)
theorem dX4_readBobber_83 : decode cX4_readBobber 83 = .ok (.aload_n 0, 1) := dk_42 (dk_at dksX4_readBobber_3 13 rfl rfl)
theorem dX4_readBobber_84 : decode cX4_readBobber 84 = .ok (.ldc2_w 257, 3) := dk_20 1 1 (dk_at dksX4_readBobber_3 14 rfl rfl)
theorem dX4_readBobber_87 : decode cX4_readBobber 87 = .ok (.iconst 0, 1) := dk_3 (dk_at dksX4_readBobber_3 17 rfl rfl)
theorem dX4_readBobber_88 : decode cX4_readBobber 88 = .ok (.bipush 20, 2) := dk_16 20 (dk_at dksX4_readBobber_3 18 rfl rfl)
theorem dX4_readBobber_90 : decode cX4_readBobber 90 = .ok (.invokevirtual 378, 3) := dk_182 1 122 (dk_at dksX4_readBobber_3 20 rfl rfl)
theorem dX4_readBobber_93 : decode cX4_readBobber 93 = .ok (.iastore, 1) := dk_79 (dk_at dksX4_readBobber_3 23 rfl rfl)
theorem dX4_readBobber_94 : decode cX4_readBobber 94 = .ok (.aload_n 0, 1) := dk_42 (dk_at dksX4_readBobber_4 0 rfl rfl)
theorem dX4_readBobber_95 : decode cX4_readBobber 95 = .ok (.getfield 72, 3) := dk_180 0 72 (dk_at dksX4_readBobber_4 1 rfl rfl)
theorem dX4_readBobber_98 : decode cX4_readBobber 98 = .ok (.aload_n 0, 1) := dk_42 (dk_at dksX4_readBobber_4 4 rfl rfl)
theorem dX4_readBobber_99 : decode cX4_readBobber 99 = .ok (.getfield 409, 3) := dk_180 1 153 (dk_at dksX4_readBobber_4 5 rfl rfl)
theorem dX4_readBobber_102 : decode cX4_readBobber 102 = .ok (.aload_n 0, 1) := dk_42 (dk_at dksX4_readBobber_4 8 rfl rfl)
theorem dX4_readBobber_103 : decode cX4_readBobber 103 = .ok (.ldc2_w 259, 3) := dk_20 1 3 (dk_at dksX4_readBobber_4 9 rfl rfl)
theorem dX4_readBobber_106 : decode cX4_readBobber 106 = .ok (.iconst 0, 1) := dk_3 (dk_at dksX4_readBobber_4 12 rfl rfl)
theorem dX4_readBobber_107 : decode cX4_readBobber 107 = .ok (.bipush 9, 2) := dk_16 9 (dk_at dksX4_readBobber_4 13 rfl rfl)
theorem dX4_readBobber_109 : decode cX4_readBobber 109 = .ok (.invokevirtual 378, 3) := dk_182 1 122 (dk_at dksX4_readBobber_4 15 rfl rfl)
theorem dX4_readBobber_112 : decode cX4_readBobber 112 = .ok (.iastore, 1) := dk_79 (dk_at dksX4_readBobber_4 18 rfl rfl)
theorem dX4_readBobber_113 : decode cX4_readBobber 113 = .ok (.aload_n 0, 1) := dk_42 (dk_at dksX4_readBobber_4 19 rfl rfl)
theorem dX4_readBobber_114 : decode cX4_readBobber 114 = .ok (.getfield 75, 3) := dk_180 0 75 (dk_at dksX4_readBobber_4 20 rfl rfl)
theorem dX4_readBobber_117 : decode cX4_readBobber 117 = .ok (.aload_n 0, 1) := dk_42 (dk_at dksX4_readBobber_4 23 rfl rfl)
theorem dX4_readBobber_118 : decode cX4_readBobber 118 = .ok (.getfield 409, 3) := dk_180 1 153 (dk_at dksX4_readBobber_5 0 rfl rfl)
theorem dX4_readBobber_121 : decode cX4_readBobber 121 = .ok (.iconst 0, 1) := dk_3 (dk_at dksX4_readBobber_5 3 rfl rfl)
theorem dX4_readBobber_122 : decode cX4_readBobber 122 = .ok (.iastore, 1) := dk_79 (dk_at dksX4_readBobber_5 4 rfl rfl)
theorem dX4_readBobber_123 : decode cX4_readBobber 123 = .ok (.aload_n 0, 1) := dk_42 (dk_at dksX4_readBobber_5 5 rfl rfl)
theorem dX4_readBobber_124 : decode cX4_readBobber 124 = .ok (.ldc2_w 229, 3) := dk_20 0 229 (dk_at dksX4_readBobber_5 6 rfl rfl)
theorem dX4_readBobber_127 : decode cX4_readBobber 127 = .ok (.invokevirtual 406, 3) := dk_182 1 150 (dk_at dksX4_readBobber_5 9 rfl rfl)
theorem dX4_readBobber_130 : decode cX4_readBobber 130 = .ok (.ifCond .eq 7, 3) := dk_153 0 7 (dk_at dksX4_readBobber_5 12 rfl rfl)
theorem dX4_readBobber_133 : decode cX4_readBobber 133 = .ok (.aload_n 0, 1) := dk_42 (dk_at dksX4_readBobber_5 15 rfl rfl)
theorem dX4_readBobber_134 : decode cX4_readBobber 134 = .ok (.invokevirtual 412, 3) := dk_182 1 156 (dk_at dksX4_readBobber_5 16 rfl rfl)
theorem dX4_readBobber_137 : decode cX4_readBobber 137 = .ok (.aload_n 0, 1) := dk_42 (dk_at dksX4_readBobber_5 19 rfl rfl)
theorem dX4_readBobber_138 : decode cX4_readBobber 138 = .ok (.getfield 224, 3) := dk_180 0 224 (dk_at dksX4_readBobber_5 20 rfl rfl)
theorem dX4_readBobber_141 : decode cX4_readBobber 141 = .ok (.ifCond .ne 13, 3) := dk_154 0 13 (dk_at dksX4_readBobber_6 0 rfl rfl)
theorem dX4_readBobber_144 : decode cX4_readBobber 144 = .ok (.aload_n 0, 1) := dk_42 (dk_at dksX4_readBobber_6 3 rfl rfl)
theorem dX4_readBobber_145 : decode cX4_readBobber 145 = .ok (.dup, 1) := dk_89 (dk_at dksX4_readBobber_6 4 rfl rfl)
theorem dX4_readBobber_146 : decode cX4_readBobber 146 = .ok (.getfield 409, 3) := dk_180 1 153 (dk_at dksX4_readBobber_6 5 rfl rfl)
theorem dX4_readBobber_149 : decode cX4_readBobber 149 = .ok (.iconst 1, 1) := dk_4 (dk_at dksX4_readBobber_6 8 rfl rfl)
theorem dX4_readBobber_150 : decode cX4_readBobber 150 = .ok (.iadd, 1) := dk_96 (dk_at dksX4_readBobber_6 9 rfl rfl)
theorem dX4_readBobber_151 : decode cX4_readBobber 151 = .ok (.putfield 409, 3) := dk_181 1 153 (dk_at dksX4_readBobber_6 10 rfl rfl)
theorem dX4_readBobber_154 : decode cX4_readBobber 154 = .ok (.return_, 1) := dk_177 (dk_at dksX4_readBobber_6 13 rfl rfl)
abbrev cX4_readBy : ByteArray := prog_23_method_43_code
def yX4_readBy : MethodName := ⟨RX4, "readBy", "()V"⟩
def dkwX4_readBy_2 : List UInt8 := [42, 3, 42, 180, 1, 138, 182, 1, 119, 79, 42, 182, 1, 31, 177]
abbrev dktX4_readBy_2 : List UInt8 := dkwX4_readBy_2 ++ []
def dkwX4_readBy_1 : List UInt8 := [156, 0, 8, 42, 8, 182, 1, 34, 42, 180, 0, 224, 158, 0, 4, 177, 42, 180, 0, 75, 42, 180, 1, 153]
abbrev dktX4_readBy_1 : List UInt8 := dkwX4_readBy_1 ++ dktX4_readBy_2
def dkwX4_readBy_0 : List UInt8 := [42, 182, 1, 116, 154, 0, 11, 42, 5, 182, 1, 34, 167, 0, 20, 42, 3, 42, 180, 1, 138, 182, 1, 119]
abbrev dktX4_readBy_0 : List UInt8 := dkwX4_readBy_0 ++ dktX4_readBy_1
theorem dksX4_readBy_0 : cX4_readBy.data.toList.drop 0 = dktX4_readBy_0 := by decide +kernel
theorem dksX4_readBy_1 : cX4_readBy.data.toList.drop 24 = dktX4_readBy_1 := dk_seg dksX4_readBy_0 24 rfl rfl
theorem dksX4_readBy_2 : cX4_readBy.data.toList.drop 48 = dktX4_readBy_2 := dk_seg dksX4_readBy_1 24 rfl rfl
theorem dX4_readBy_0 : decode cX4_readBy 0 = .ok (.aload_n 0, 1) := dk_42 (dk_at dksX4_readBy_0 0 rfl rfl)
theorem dX4_readBy_1 : decode cX4_readBy 1 = .ok (.invokevirtual 372, 3) := dk_182 1 116 (dk_at dksX4_readBy_0 1 rfl rfl)
theorem dX4_readBy_4 : decode cX4_readBy 4 = .ok (.ifCond .ne 11, 3) := dk_154 0 11 (dk_at dksX4_readBy_0 4 rfl rfl)
theorem dX4_readBy_7 : decode cX4_readBy 7 = .ok (.aload_n 0, 1) := dk_42 (dk_at dksX4_readBy_0 7 rfl rfl)
theorem dX4_readBy_8 : decode cX4_readBy 8 = .ok (.iconst 2, 1) := dk_5 (dk_at dksX4_readBy_0 8 rfl rfl)
theorem dX4_readBy_9 : decode cX4_readBy 9 = .ok (.invokevirtual 290, 3) := dk_182 1 34 (dk_at dksX4_readBy_0 9 rfl rfl)
theorem dX4_readBy_12 : decode cX4_readBy 12 = .ok (.goto 20, 3) := dk_167 0 20 (dk_at dksX4_readBy_0 12 rfl rfl)
theorem dX4_readBy_15 : decode cX4_readBy 15 = .ok (.aload_n 0, 1) := dk_42 (dk_at dksX4_readBy_0 15 rfl rfl)
theorem dX4_readBy_16 : decode cX4_readBy 16 = .ok (.iconst 0, 1) := dk_3 (dk_at dksX4_readBy_0 16 rfl rfl)
theorem dX4_readBy_17 : decode cX4_readBy 17 = .ok (.aload_n 0, 1) := dk_42 (dk_at dksX4_readBy_0 17 rfl rfl)
theorem dX4_readBy_18 : decode cX4_readBy 18 = .ok (.getfield 394, 3) := dk_180 1 138 (dk_at dksX4_readBy_0 18 rfl rfl)
theorem dX4_readBy_21 : decode cX4_readBy 21 = .ok (.invokevirtual 375, 3) := dk_182 1 119 (dk_at dksX4_readBy_0 21 rfl rfl)
theorem dX4_readBy_24 : decode cX4_readBy 24 = .ok (.ifCond .ge 8, 3) := dk_156 0 8 (dk_at dksX4_readBy_1 0 rfl rfl)
theorem dX4_readBy_27 : decode cX4_readBy 27 = .ok (.aload_n 0, 1) := dk_42 (dk_at dksX4_readBy_1 3 rfl rfl)
theorem dX4_readBy_28 : decode cX4_readBy 28 = .ok (.iconst 5, 1) := dk_8 (dk_at dksX4_readBy_1 4 rfl rfl)
theorem dX4_readBy_29 : decode cX4_readBy 29 = .ok (.invokevirtual 290, 3) := dk_182 1 34 (dk_at dksX4_readBy_1 5 rfl rfl)
theorem dX4_readBy_32 : decode cX4_readBy 32 = .ok (.aload_n 0, 1) := dk_42 (dk_at dksX4_readBy_1 8 rfl rfl)
theorem dX4_readBy_33 : decode cX4_readBy 33 = .ok (.getfield 224, 3) := dk_180 0 224 (dk_at dksX4_readBy_1 9 rfl rfl)
theorem dX4_readBy_36 : decode cX4_readBy 36 = .ok (.ifCond .le 4, 3) := dk_158 0 4 (dk_at dksX4_readBy_1 12 rfl rfl)
theorem dX4_readBy_39 : decode cX4_readBy 39 = .ok (.return_, 1) := dk_177 (dk_at dksX4_readBy_1 15 rfl rfl)
theorem dX4_readBy_40 : decode cX4_readBy 40 = .ok (.aload_n 0, 1) := dk_42 (dk_at dksX4_readBy_1 16 rfl rfl)
theorem dX4_readBy_41 : decode cX4_readBy 41 = .ok (.getfield 75, 3) := dk_180 0 75 (dk_at dksX4_readBy_1 17 rfl rfl)
theorem dX4_readBy_44 : decode cX4_readBy 44 = .ok (.aload_n 0, 1) := dk_42 (dk_at dksX4_readBy_1 20 rfl rfl)
theorem dX4_readBy_45 : decode cX4_readBy 45 = .ok (.getfield 409, 3) := dk_180 1 153 (dk_at dksX4_readBy_1 21 rfl rfl)
theorem dX4_readBy_48 : decode cX4_readBy 48 = .ok (.aload_n 0, 1) := dk_42 (dk_at dksX4_readBy_2 0 rfl rfl)
theorem dX4_readBy_49 : decode cX4_readBy 49 = .ok (.iconst 0, 1) := dk_3 (dk_at dksX4_readBy_2 1 rfl rfl)
theorem dX4_readBy_50 : decode cX4_readBy 50 = .ok (.aload_n 0, 1) := dk_42 (dk_at dksX4_readBy_2 2 rfl rfl)
theorem dX4_readBy_51 : decode cX4_readBy 51 = .ok (.getfield 394, 3) := dk_180 1 138 (dk_at dksX4_readBy_2 3 rfl rfl)
theorem dX4_readBy_54 : decode cX4_readBy 54 = .ok (.invokevirtual 375, 3) := dk_182 1 119 (dk_at dksX4_readBy_2 6 rfl rfl)
theorem dX4_readBy_57 : decode cX4_readBy 57 = .ok (.iastore, 1) := dk_79 (dk_at dksX4_readBy_2 9 rfl rfl)
theorem dX4_readBy_58 : decode cX4_readBy 58 = .ok (.aload_n 0, 1) := dk_42 (dk_at dksX4_readBy_2 10 rfl rfl)
theorem dX4_readBy_59 : decode cX4_readBy 59 = .ok (.invokevirtual 287, 3) := dk_182 1 31 (dk_at dksX4_readBy_2 11 rfl rfl)
theorem dX4_readBy_62 : decode cX4_readBy 62 = .ok (.return_, 1) := dk_177 (dk_at dksX4_readBy_2 14 rfl rfl)
abbrev cX4_readDraw : ByteArray := prog_23_method_44_code
def yX4_readDraw : MethodName := ⟨RX4, "readDraw", "()V"⟩
def dkwX4_readDraw_0 : List UInt8 := [42, 4, 181, 1, 159, 42, 42, 20, 1, 5, 3, 17, 3, 231, 182, 1, 122, 181, 1, 163, 177]
abbrev dktX4_readDraw_0 : List UInt8 := dkwX4_readDraw_0 ++ []
theorem dksX4_readDraw_0 : cX4_readDraw.data.toList.drop 0 = dktX4_readDraw_0 := by decide +kernel
theorem dX4_readDraw_0 : decode cX4_readDraw 0 = .ok (.aload_n 0, 1) := dk_42 (dk_at dksX4_readDraw_0 0 rfl rfl)
theorem dX4_readDraw_1 : decode cX4_readDraw 1 = .ok (.iconst 1, 1) := dk_4 (dk_at dksX4_readDraw_0 1 rfl rfl)
theorem dX4_readDraw_2 : decode cX4_readDraw 2 = .ok (.putfield 415, 3) := dk_181 1 159 (dk_at dksX4_readDraw_0 2 rfl rfl)
theorem dX4_readDraw_5 : decode cX4_readDraw 5 = .ok (.aload_n 0, 1) := dk_42 (dk_at dksX4_readDraw_0 5 rfl rfl)
theorem dX4_readDraw_6 : decode cX4_readDraw 6 = .ok (.aload_n 0, 1) := dk_42 (dk_at dksX4_readDraw_0 6 rfl rfl)
theorem dX4_readDraw_7 : decode cX4_readDraw 7 = .ok (.ldc2_w 261, 3) := dk_20 1 5 (dk_at dksX4_readDraw_0 7 rfl rfl)
theorem dX4_readDraw_10 : decode cX4_readDraw 10 = .ok (.iconst 0, 1) := dk_3 (dk_at dksX4_readDraw_0 10 rfl rfl)
theorem dX4_readDraw_11 : decode cX4_readDraw 11 = .ok (.sipush 999, 3) := dk_17 3 231 (dk_at dksX4_readDraw_0 11 rfl rfl)
theorem dX4_readDraw_14 : decode cX4_readDraw 14 = .ok (.invokevirtual 378, 3) := dk_182 1 122 (dk_at dksX4_readDraw_0 14 rfl rfl)
theorem dX4_readDraw_17 : decode cX4_readDraw 17 = .ok (.putfield 419, 3) := dk_181 1 163 (dk_at dksX4_readDraw_0 17 rfl rfl)
theorem dX4_readDraw_20 : decode cX4_readDraw 20 = .ok (.return_, 1) := dk_177 (dk_at dksX4_readDraw_0 20 rfl rfl)
abbrev cX4_readBite : ByteArray := prog_23_method_45_code
def yX4_readBite : MethodName := ⟨RX4, "readBite", "()V"⟩
def dkwX4_readBite_0 : List UInt8 := [42, 4, 181, 1, 166, 42, 42, 20, 1, 15, 3, 16, 9, 182, 1, 122, 181, 1, 169, 177]
abbrev dktX4_readBite_0 : List UInt8 := dkwX4_readBite_0 ++ []
theorem dksX4_readBite_0 : cX4_readBite.data.toList.drop 0 = dktX4_readBite_0 := by decide +kernel
theorem dX4_readBite_0 : decode cX4_readBite 0 = .ok (.aload_n 0, 1) := dk_42 (dk_at dksX4_readBite_0 0 rfl rfl)
theorem dX4_readBite_1 : decode cX4_readBite 1 = .ok (.iconst 1, 1) := dk_4 (dk_at dksX4_readBite_0 1 rfl rfl)
theorem dX4_readBite_2 : decode cX4_readBite 2 = .ok (.putfield 422, 3) := dk_181 1 166 (dk_at dksX4_readBite_0 2 rfl rfl)
theorem dX4_readBite_5 : decode cX4_readBite 5 = .ok (.aload_n 0, 1) := dk_42 (dk_at dksX4_readBite_0 5 rfl rfl)
theorem dX4_readBite_6 : decode cX4_readBite 6 = .ok (.aload_n 0, 1) := dk_42 (dk_at dksX4_readBite_0 6 rfl rfl)
theorem dX4_readBite_7 : decode cX4_readBite 7 = .ok (.ldc2_w 271, 3) := dk_20 1 15 (dk_at dksX4_readBite_0 7 rfl rfl)
theorem dX4_readBite_10 : decode cX4_readBite 10 = .ok (.iconst 0, 1) := dk_3 (dk_at dksX4_readBite_0 10 rfl rfl)
theorem dX4_readBite_11 : decode cX4_readBite 11 = .ok (.bipush 9, 2) := dk_16 9 (dk_at dksX4_readBite_0 11 rfl rfl)
theorem dX4_readBite_13 : decode cX4_readBite 13 = .ok (.invokevirtual 378, 3) := dk_182 1 122 (dk_at dksX4_readBite_0 13 rfl rfl)
theorem dX4_readBite_16 : decode cX4_readBite 16 = .ok (.putfield 425, 3) := dk_181 1 169 (dk_at dksX4_readBite_0 16 rfl rfl)
theorem dX4_readBite_19 : decode cX4_readBite 19 = .ok (.return_, 1) := dk_177 (dk_at dksX4_readBite_0 19 rfl rfl)
abbrev cX4_layTold : ByteArray := prog_23_method_57_code
def yX4_layTold : MethodName := ⟨RX4, "layTold", "()V"⟩
def dkwX4_layTold_5 : List UInt8 := [79, 42, 180, 0, 121, 16, 52, 6, 27, 104, 96, 3, 79, 132, 1, 1, 167, 255, 207, 177]
abbrev dktX4_layTold_5 : List UInt8 := dkwX4_layTold_5 ++ []
def dkwX4_layTold_4 : List UInt8 := [16, 50, 6, 27, 104, 96, 42, 180, 0, 106, 27, 46, 79, 42, 180, 0, 121, 16, 51, 6, 27, 104, 96, 3]
abbrev dktX4_layTold_4 : List UInt8 := dkwX4_layTold_4 ++ dktX4_layTold_5
def dkwX4_layTold_3 : List UInt8 := [180, 0, 82, 27, 46, 79, 132, 1, 1, 167, 255, 179, 3, 60, 27, 7, 162, 0, 50, 42, 180, 0, 121]
abbrev dktX4_layTold_3 : List UInt8 := dkwX4_layTold_3 ++ dktX4_layTold_4
def dkwX4_layTold_2 : List UInt8 := [2, 79, 42, 180, 0, 121, 8, 27, 104, 6, 96, 3, 79, 42, 180, 0, 121, 8, 27, 104, 7, 96, 42]
abbrev dktX4_layTold_2 : List UInt8 := dkwX4_layTold_2 ++ dktX4_layTold_3
def dkwX4_layTold_1 : List UInt8 := [180, 0, 121, 8, 27, 104, 4, 96, 42, 180, 0, 91, 27, 46, 79, 42, 180, 0, 121, 8, 27, 104, 5, 96]
abbrev dktX4_layTold_1 : List UInt8 := dkwX4_layTold_1 ++ dktX4_layTold_2
def dkwX4_layTold_0 : List UInt8 := [3, 60, 27, 16, 10, 162, 0, 77, 42, 180, 0, 121, 8, 27, 104, 42, 180, 0, 88, 27, 46, 79, 42]
abbrev dktX4_layTold_0 : List UInt8 := dkwX4_layTold_0 ++ dktX4_layTold_1
theorem dksX4_layTold_0 : cX4_layTold.data.toList.drop 0 = dktX4_layTold_0 := by decide +kernel
theorem dksX4_layTold_1 : cX4_layTold.data.toList.drop 23 = dktX4_layTold_1 := dk_seg dksX4_layTold_0 23 rfl rfl
theorem dksX4_layTold_2 : cX4_layTold.data.toList.drop 47 = dktX4_layTold_2 := dk_seg dksX4_layTold_1 24 rfl rfl
theorem dksX4_layTold_3 : cX4_layTold.data.toList.drop 70 = dktX4_layTold_3 := dk_seg dksX4_layTold_2 23 rfl rfl
theorem dksX4_layTold_4 : cX4_layTold.data.toList.drop 93 = dktX4_layTold_4 := dk_seg dksX4_layTold_3 23 rfl rfl
theorem dksX4_layTold_5 : cX4_layTold.data.toList.drop 117 = dktX4_layTold_5 := dk_seg dksX4_layTold_4 24 rfl rfl
theorem dX4_layTold_0 : decode cX4_layTold 0 = .ok (.iconst 0, 1) := dk_3 (dk_at dksX4_layTold_0 0 rfl rfl)
theorem dX4_layTold_1 : decode cX4_layTold 1 = .ok (.istore_n 1, 1) := dk_60 (dk_at dksX4_layTold_0 1 rfl rfl)
theorem dX4_layTold_2 : decode cX4_layTold 2 = .ok (.iload_n 1, 1) := dk_27 (dk_at dksX4_layTold_0 2 rfl rfl)
theorem dX4_layTold_3 : decode cX4_layTold 3 = .ok (.bipush 10, 2) := dk_16 10 (dk_at dksX4_layTold_0 3 rfl rfl)
theorem dX4_layTold_5 : decode cX4_layTold 5 = .ok (.if_icmp .ge 77, 3) := dk_162 0 77 (dk_at dksX4_layTold_0 5 rfl rfl)
theorem dX4_layTold_8 : decode cX4_layTold 8 = .ok (.aload_n 0, 1) := dk_42 (dk_at dksX4_layTold_0 8 rfl rfl)
theorem dX4_layTold_9 : decode cX4_layTold 9 = .ok (.getfield 121, 3) := dk_180 0 121 (dk_at dksX4_layTold_0 9 rfl rfl)
theorem dX4_layTold_12 : decode cX4_layTold 12 = .ok (.iconst 5, 1) := dk_8 (dk_at dksX4_layTold_0 12 rfl rfl)
theorem dX4_layTold_13 : decode cX4_layTold 13 = .ok (.iload_n 1, 1) := dk_27 (dk_at dksX4_layTold_0 13 rfl rfl)
theorem dX4_layTold_14 : decode cX4_layTold 14 = .ok (.imul, 1) := dk_104 (dk_at dksX4_layTold_0 14 rfl rfl)
theorem dX4_layTold_15 : decode cX4_layTold 15 = .ok (.aload_n 0, 1) := dk_42 (dk_at dksX4_layTold_0 15 rfl rfl)
theorem dX4_layTold_16 : decode cX4_layTold 16 = .ok (.getfield 88, 3) := dk_180 0 88 (dk_at dksX4_layTold_0 16 rfl rfl)
theorem dX4_layTold_19 : decode cX4_layTold 19 = .ok (.iload_n 1, 1) := dk_27 (dk_at dksX4_layTold_0 19 rfl rfl)
theorem dX4_layTold_20 : decode cX4_layTold 20 = .ok (.iaload, 1) := dk_46 (dk_at dksX4_layTold_0 20 rfl rfl)
theorem dX4_layTold_21 : decode cX4_layTold 21 = .ok (.iastore, 1) := dk_79 (dk_at dksX4_layTold_0 21 rfl rfl)
theorem dX4_layTold_22 : decode cX4_layTold 22 = .ok (.aload_n 0, 1) := dk_42 (dk_at dksX4_layTold_0 22 rfl rfl)
theorem dX4_layTold_23 : decode cX4_layTold 23 = .ok (.getfield 121, 3) := dk_180 0 121 (dk_at dksX4_layTold_1 0 rfl rfl)
theorem dX4_layTold_26 : decode cX4_layTold 26 = .ok (.iconst 5, 1) := dk_8 (dk_at dksX4_layTold_1 3 rfl rfl)
theorem dX4_layTold_27 : decode cX4_layTold 27 = .ok (.iload_n 1, 1) := dk_27 (dk_at dksX4_layTold_1 4 rfl rfl)
theorem dX4_layTold_28 : decode cX4_layTold 28 = .ok (.imul, 1) := dk_104 (dk_at dksX4_layTold_1 5 rfl rfl)
theorem dX4_layTold_29 : decode cX4_layTold 29 = .ok (.iconst 1, 1) := dk_4 (dk_at dksX4_layTold_1 6 rfl rfl)
theorem dX4_layTold_30 : decode cX4_layTold 30 = .ok (.iadd, 1) := dk_96 (dk_at dksX4_layTold_1 7 rfl rfl)
theorem dX4_layTold_31 : decode cX4_layTold 31 = .ok (.aload_n 0, 1) := dk_42 (dk_at dksX4_layTold_1 8 rfl rfl)
theorem dX4_layTold_32 : decode cX4_layTold 32 = .ok (.getfield 91, 3) := dk_180 0 91 (dk_at dksX4_layTold_1 9 rfl rfl)
theorem dX4_layTold_35 : decode cX4_layTold 35 = .ok (.iload_n 1, 1) := dk_27 (dk_at dksX4_layTold_1 12 rfl rfl)
theorem dX4_layTold_36 : decode cX4_layTold 36 = .ok (.iaload, 1) := dk_46 (dk_at dksX4_layTold_1 13 rfl rfl)
theorem dX4_layTold_37 : decode cX4_layTold 37 = .ok (.iastore, 1) := dk_79 (dk_at dksX4_layTold_1 14 rfl rfl)
theorem dX4_layTold_38 : decode cX4_layTold 38 = .ok (.aload_n 0, 1) := dk_42 (dk_at dksX4_layTold_1 15 rfl rfl)
theorem dX4_layTold_39 : decode cX4_layTold 39 = .ok (.getfield 121, 3) := dk_180 0 121 (dk_at dksX4_layTold_1 16 rfl rfl)
theorem dX4_layTold_42 : decode cX4_layTold 42 = .ok (.iconst 5, 1) := dk_8 (dk_at dksX4_layTold_1 19 rfl rfl)
theorem dX4_layTold_43 : decode cX4_layTold 43 = .ok (.iload_n 1, 1) := dk_27 (dk_at dksX4_layTold_1 20 rfl rfl)
theorem dX4_layTold_44 : decode cX4_layTold 44 = .ok (.imul, 1) := dk_104 (dk_at dksX4_layTold_1 21 rfl rfl)
theorem dX4_layTold_45 : decode cX4_layTold 45 = .ok (.iconst 2, 1) := dk_5 (dk_at dksX4_layTold_1 22 rfl rfl)
theorem dX4_layTold_46 : decode cX4_layTold 46 = .ok (.iadd, 1) := dk_96 (dk_at dksX4_layTold_1 23 rfl rfl)
theorem dX4_layTold_47 : decode cX4_layTold 47 = .ok (.iconst (-1), 1) := dk_2 (dk_at dksX4_layTold_2 0 rfl rfl)
theorem dX4_layTold_48 : decode cX4_layTold 48 = .ok (.iastore, 1) := dk_79 (dk_at dksX4_layTold_2 1 rfl rfl)
theorem dX4_layTold_49 : decode cX4_layTold 49 = .ok (.aload_n 0, 1) := dk_42 (dk_at dksX4_layTold_2 2 rfl rfl)
theorem dX4_layTold_50 : decode cX4_layTold 50 = .ok (.getfield 121, 3) := dk_180 0 121 (dk_at dksX4_layTold_2 3 rfl rfl)
theorem dX4_layTold_53 : decode cX4_layTold 53 = .ok (.iconst 5, 1) := dk_8 (dk_at dksX4_layTold_2 6 rfl rfl)
theorem dX4_layTold_54 : decode cX4_layTold 54 = .ok (.iload_n 1, 1) := dk_27 (dk_at dksX4_layTold_2 7 rfl rfl)
theorem dX4_layTold_55 : decode cX4_layTold 55 = .ok (.imul, 1) := dk_104 (dk_at dksX4_layTold_2 8 rfl rfl)
theorem dX4_layTold_56 : decode cX4_layTold 56 = .ok (.iconst 3, 1) := dk_6 (dk_at dksX4_layTold_2 9 rfl rfl)
theorem dX4_layTold_57 : decode cX4_layTold 57 = .ok (.iadd, 1) := dk_96 (dk_at dksX4_layTold_2 10 rfl rfl)
theorem dX4_layTold_58 : decode cX4_layTold 58 = .ok (.iconst 0, 1) := dk_3 (dk_at dksX4_layTold_2 11 rfl rfl)
theorem dX4_layTold_59 : decode cX4_layTold 59 = .ok (.iastore, 1) := dk_79 (dk_at dksX4_layTold_2 12 rfl rfl)
theorem dX4_layTold_60 : decode cX4_layTold 60 = .ok (.aload_n 0, 1) := dk_42 (dk_at dksX4_layTold_2 13 rfl rfl)
theorem dX4_layTold_61 : decode cX4_layTold 61 = .ok (.getfield 121, 3) := dk_180 0 121 (dk_at dksX4_layTold_2 14 rfl rfl)
theorem dX4_layTold_64 : decode cX4_layTold 64 = .ok (.iconst 5, 1) := dk_8 (dk_at dksX4_layTold_2 17 rfl rfl)
theorem dX4_layTold_65 : decode cX4_layTold 65 = .ok (.iload_n 1, 1) := dk_27 (dk_at dksX4_layTold_2 18 rfl rfl)
theorem dX4_layTold_66 : decode cX4_layTold 66 = .ok (.imul, 1) := dk_104 (dk_at dksX4_layTold_2 19 rfl rfl)
theorem dX4_layTold_67 : decode cX4_layTold 67 = .ok (.iconst 4, 1) := dk_7 (dk_at dksX4_layTold_2 20 rfl rfl)
theorem dX4_layTold_68 : decode cX4_layTold 68 = .ok (.iadd, 1) := dk_96 (dk_at dksX4_layTold_2 21 rfl rfl)
theorem dX4_layTold_69 : decode cX4_layTold 69 = .ok (.aload_n 0, 1) := dk_42 (dk_at dksX4_layTold_2 22 rfl rfl)
theorem dX4_layTold_70 : decode cX4_layTold 70 = .ok (.getfield 82, 3) := dk_180 0 82 (dk_at dksX4_layTold_3 0 rfl rfl)
theorem dX4_layTold_73 : decode cX4_layTold 73 = .ok (.iload_n 1, 1) := dk_27 (dk_at dksX4_layTold_3 3 rfl rfl)
theorem dX4_layTold_74 : decode cX4_layTold 74 = .ok (.iaload, 1) := dk_46 (dk_at dksX4_layTold_3 4 rfl rfl)
theorem dX4_layTold_75 : decode cX4_layTold 75 = .ok (.iastore, 1) := dk_79 (dk_at dksX4_layTold_3 5 rfl rfl)
theorem dX4_layTold_76 : decode cX4_layTold 76 = .ok (.iinc 1 1, 3) := dk_132 1 1 (dk_at dksX4_layTold_3 6 rfl rfl)
theorem dX4_layTold_79 : decode cX4_layTold 79 = .ok (.goto (-77), 3) := dk_167 255 179 (dk_at dksX4_layTold_3 9 rfl rfl)
theorem dX4_layTold_82 : decode cX4_layTold 82 = .ok (.iconst 0, 1) := dk_3 (dk_at dksX4_layTold_3 12 rfl rfl)
theorem dX4_layTold_83 : decode cX4_layTold 83 = .ok (.istore_n 1, 1) := dk_60 (dk_at dksX4_layTold_3 13 rfl rfl)
theorem dX4_layTold_84 : decode cX4_layTold 84 = .ok (.iload_n 1, 1) := dk_27 (dk_at dksX4_layTold_3 14 rfl rfl)
theorem dX4_layTold_85 : decode cX4_layTold 85 = .ok (.iconst 4, 1) := dk_7 (dk_at dksX4_layTold_3 15 rfl rfl)
theorem dX4_layTold_86 : decode cX4_layTold 86 = .ok (.if_icmp .ge 50, 3) := dk_162 0 50 (dk_at dksX4_layTold_3 16 rfl rfl)
theorem dX4_layTold_89 : decode cX4_layTold 89 = .ok (.aload_n 0, 1) := dk_42 (dk_at dksX4_layTold_3 19 rfl rfl)
theorem dX4_layTold_90 : decode cX4_layTold 90 = .ok (.getfield 121, 3) := dk_180 0 121 (dk_at dksX4_layTold_3 20 rfl rfl)
theorem dX4_layTold_93 : decode cX4_layTold 93 = .ok (.bipush 50, 2) := dk_16 50 (dk_at dksX4_layTold_4 0 rfl rfl)
theorem dX4_layTold_95 : decode cX4_layTold 95 = .ok (.iconst 3, 1) := dk_6 (dk_at dksX4_layTold_4 2 rfl rfl)
theorem dX4_layTold_96 : decode cX4_layTold 96 = .ok (.iload_n 1, 1) := dk_27 (dk_at dksX4_layTold_4 3 rfl rfl)
theorem dX4_layTold_97 : decode cX4_layTold 97 = .ok (.imul, 1) := dk_104 (dk_at dksX4_layTold_4 4 rfl rfl)
theorem dX4_layTold_98 : decode cX4_layTold 98 = .ok (.iadd, 1) := dk_96 (dk_at dksX4_layTold_4 5 rfl rfl)
theorem dX4_layTold_99 : decode cX4_layTold 99 = .ok (.aload_n 0, 1) := dk_42 (dk_at dksX4_layTold_4 6 rfl rfl)
theorem dX4_layTold_100 : decode cX4_layTold 100 = .ok (.getfield 106, 3) := dk_180 0 106 (dk_at dksX4_layTold_4 7 rfl rfl)
theorem dX4_layTold_103 : decode cX4_layTold 103 = .ok (.iload_n 1, 1) := dk_27 (dk_at dksX4_layTold_4 10 rfl rfl)
theorem dX4_layTold_104 : decode cX4_layTold 104 = .ok (.iaload, 1) := dk_46 (dk_at dksX4_layTold_4 11 rfl rfl)
theorem dX4_layTold_105 : decode cX4_layTold 105 = .ok (.iastore, 1) := dk_79 (dk_at dksX4_layTold_4 12 rfl rfl)
theorem dX4_layTold_106 : decode cX4_layTold 106 = .ok (.aload_n 0, 1) := dk_42 (dk_at dksX4_layTold_4 13 rfl rfl)
theorem dX4_layTold_107 : decode cX4_layTold 107 = .ok (.getfield 121, 3) := dk_180 0 121 (dk_at dksX4_layTold_4 14 rfl rfl)
theorem dX4_layTold_110 : decode cX4_layTold 110 = .ok (.bipush 51, 2) := dk_16 51 (dk_at dksX4_layTold_4 17 rfl rfl)
theorem dX4_layTold_112 : decode cX4_layTold 112 = .ok (.iconst 3, 1) := dk_6 (dk_at dksX4_layTold_4 19 rfl rfl)
theorem dX4_layTold_113 : decode cX4_layTold 113 = .ok (.iload_n 1, 1) := dk_27 (dk_at dksX4_layTold_4 20 rfl rfl)
theorem dX4_layTold_114 : decode cX4_layTold 114 = .ok (.imul, 1) := dk_104 (dk_at dksX4_layTold_4 21 rfl rfl)
theorem dX4_layTold_115 : decode cX4_layTold 115 = .ok (.iadd, 1) := dk_96 (dk_at dksX4_layTold_4 22 rfl rfl)
theorem dX4_layTold_116 : decode cX4_layTold 116 = .ok (.iconst 0, 1) := dk_3 (dk_at dksX4_layTold_4 23 rfl rfl)
theorem dX4_layTold_117 : decode cX4_layTold 117 = .ok (.iastore, 1) := dk_79 (dk_at dksX4_layTold_5 0 rfl rfl)
theorem dX4_layTold_118 : decode cX4_layTold 118 = .ok (.aload_n 0, 1) := dk_42 (dk_at dksX4_layTold_5 1 rfl rfl)
theorem dX4_layTold_119 : decode cX4_layTold 119 = .ok (.getfield 121, 3) := dk_180 0 121 (dk_at dksX4_layTold_5 2 rfl rfl)
theorem dX4_layTold_122 : decode cX4_layTold 122 = .ok (.bipush 52, 2) := dk_16 52 (dk_at dksX4_layTold_5 5 rfl rfl)
theorem dX4_layTold_124 : decode cX4_layTold 124 = .ok (.iconst 3, 1) := dk_6 (dk_at dksX4_layTold_5 7 rfl rfl)
theorem dX4_layTold_125 : decode cX4_layTold 125 = .ok (.iload_n 1, 1) := dk_27 (dk_at dksX4_layTold_5 8 rfl rfl)
theorem dX4_layTold_126 : decode cX4_layTold 126 = .ok (.imul, 1) := dk_104 (dk_at dksX4_layTold_5 9 rfl rfl)
theorem dX4_layTold_127 : decode cX4_layTold 127 = .ok (.iadd, 1) := dk_96 (dk_at dksX4_layTold_5 10 rfl rfl)
theorem dX4_layTold_128 : decode cX4_layTold 128 = .ok (.iconst 0, 1) := dk_3 (dk_at dksX4_layTold_5 11 rfl rfl)
theorem dX4_layTold_129 : decode cX4_layTold 129 = .ok (.iastore, 1) := dk_79 (dk_at dksX4_layTold_5 12 rfl rfl)
theorem dX4_layTold_130 : decode cX4_layTold 130 = .ok (.iinc 1 1, 3) := dk_132 1 1 (dk_at dksX4_layTold_5 13 rfl rfl)
theorem dX4_layTold_133 : decode cX4_layTold 133 = .ok (.goto (-49), 3) := dk_167 255 207 (dk_at dksX4_layTold_5 16 rfl rfl)
theorem dX4_layTold_136 : decode cX4_layTold 136 = .ok (.return_, 1) := dk_177 (dk_at dksX4_layTold_5 19 rfl rfl)
abbrev cX4_keep : ByteArray := prog_23_method_56_code
def yX4_keep : MethodName := ⟨RX4, "keep", "()V"⟩
def dkwX4_keep_1 : List UInt8 := [167, 255, 235, 177]
abbrev dktX4_keep_1 : List UInt8 := dkwX4_keep_1 ++ []
def dkwX4_keep_0 : List UInt8 := [3, 60, 27, 16, 123, 162, 0, 21, 42, 180, 0, 124, 27, 42, 180, 0, 121, 27, 46, 79, 132, 1, 1]
abbrev dktX4_keep_0 : List UInt8 := dkwX4_keep_0 ++ dktX4_keep_1
theorem dksX4_keep_0 : cX4_keep.data.toList.drop 0 = dktX4_keep_0 := by decide +kernel
theorem dksX4_keep_1 : cX4_keep.data.toList.drop 23 = dktX4_keep_1 := dk_seg dksX4_keep_0 23 rfl rfl
theorem dX4_keep_0 : decode cX4_keep 0 = .ok (.iconst 0, 1) := dk_3 (dk_at dksX4_keep_0 0 rfl rfl)
theorem dX4_keep_1 : decode cX4_keep 1 = .ok (.istore_n 1, 1) := dk_60 (dk_at dksX4_keep_0 1 rfl rfl)
theorem dX4_keep_2 : decode cX4_keep 2 = .ok (.iload_n 1, 1) := dk_27 (dk_at dksX4_keep_0 2 rfl rfl)
theorem dX4_keep_3 : decode cX4_keep 3 = .ok (.bipush 123, 2) := dk_16 123 (dk_at dksX4_keep_0 3 rfl rfl)
theorem dX4_keep_5 : decode cX4_keep 5 = .ok (.if_icmp .ge 21, 3) := dk_162 0 21 (dk_at dksX4_keep_0 5 rfl rfl)
theorem dX4_keep_8 : decode cX4_keep 8 = .ok (.aload_n 0, 1) := dk_42 (dk_at dksX4_keep_0 8 rfl rfl)
theorem dX4_keep_9 : decode cX4_keep 9 = .ok (.getfield 124, 3) := dk_180 0 124 (dk_at dksX4_keep_0 9 rfl rfl)
theorem dX4_keep_12 : decode cX4_keep 12 = .ok (.iload_n 1, 1) := dk_27 (dk_at dksX4_keep_0 12 rfl rfl)
theorem dX4_keep_13 : decode cX4_keep 13 = .ok (.aload_n 0, 1) := dk_42 (dk_at dksX4_keep_0 13 rfl rfl)
theorem dX4_keep_14 : decode cX4_keep 14 = .ok (.getfield 121, 3) := dk_180 0 121 (dk_at dksX4_keep_0 14 rfl rfl)
theorem dX4_keep_17 : decode cX4_keep 17 = .ok (.iload_n 1, 1) := dk_27 (dk_at dksX4_keep_0 17 rfl rfl)
theorem dX4_keep_18 : decode cX4_keep 18 = .ok (.iaload, 1) := dk_46 (dk_at dksX4_keep_0 18 rfl rfl)
theorem dX4_keep_19 : decode cX4_keep 19 = .ok (.iastore, 1) := dk_79 (dk_at dksX4_keep_0 19 rfl rfl)
theorem dX4_keep_20 : decode cX4_keep 20 = .ok (.iinc 1 1, 3) := dk_132 1 1 (dk_at dksX4_keep_0 20 rfl rfl)
theorem dX4_keep_23 : decode cX4_keep 23 = .ok (.goto (-21), 3) := dk_167 255 235 (dk_at dksX4_keep_1 0 rfl rfl)
theorem dX4_keep_26 : decode cX4_keep 26 = .ok (.return_, 1) := dk_177 (dk_at dksX4_keep_1 3 rfl rfl)
abbrev cX4_fault : ByteArray := prog_23_method_49_code
def yX4_fault : MethodName := ⟨RX4, "fault", "(I)I"⟩
def dkwX4_fault_1 : List UInt8 := [172]
abbrev dktX4_fault_1 : List UInt8 := dkwX4_fault_1 ++ []
def dkwX4_fault_0 : List UInt8 := [27, 154, 0, 10, 42, 180, 0, 224, 167, 0, 16, 27, 4, 160, 0, 10, 42, 180, 0, 13, 167, 0, 4, 2]
abbrev dktX4_fault_0 : List UInt8 := dkwX4_fault_0 ++ dktX4_fault_1
theorem dksX4_fault_0 : cX4_fault.data.toList.drop 0 = dktX4_fault_0 := by decide +kernel
theorem dksX4_fault_1 : cX4_fault.data.toList.drop 24 = dktX4_fault_1 := dk_seg dksX4_fault_0 24 rfl rfl
theorem dX4_fault_0 : decode cX4_fault 0 = .ok (.iload_n 1, 1) := dk_27 (dk_at dksX4_fault_0 0 rfl rfl)
theorem dX4_fault_1 : decode cX4_fault 1 = .ok (.ifCond .ne 10, 3) := dk_154 0 10 (dk_at dksX4_fault_0 1 rfl rfl)
theorem dX4_fault_4 : decode cX4_fault 4 = .ok (.aload_n 0, 1) := dk_42 (dk_at dksX4_fault_0 4 rfl rfl)
theorem dX4_fault_5 : decode cX4_fault 5 = .ok (.getfield 224, 3) := dk_180 0 224 (dk_at dksX4_fault_0 5 rfl rfl)
theorem dX4_fault_8 : decode cX4_fault 8 = .ok (.goto 16, 3) := dk_167 0 16 (dk_at dksX4_fault_0 8 rfl rfl)
theorem dX4_fault_11 : decode cX4_fault 11 = .ok (.iload_n 1, 1) := dk_27 (dk_at dksX4_fault_0 11 rfl rfl)
theorem dX4_fault_12 : decode cX4_fault 12 = .ok (.iconst 1, 1) := dk_4 (dk_at dksX4_fault_0 12 rfl rfl)
theorem dX4_fault_13 : decode cX4_fault 13 = .ok (.if_icmp .ne 10, 3) := dk_160 0 10 (dk_at dksX4_fault_0 13 rfl rfl)
theorem dX4_fault_16 : decode cX4_fault 16 = .ok (.aload_n 0, 1) := dk_42 (dk_at dksX4_fault_0 16 rfl rfl)
theorem dX4_fault_17 : decode cX4_fault 17 = .ok (.getfield 13, 3) := dk_180 0 13 (dk_at dksX4_fault_0 17 rfl rfl)
theorem dX4_fault_20 : decode cX4_fault 20 = .ok (.goto 4, 3) := dk_167 0 4 (dk_at dksX4_fault_0 20 rfl rfl)
theorem dX4_fault_23 : decode cX4_fault 23 = .ok (.iconst (-1), 1) := dk_2 (dk_at dksX4_fault_0 23 rfl rfl)
theorem dX4_fault_24 : decode cX4_fault 24 = .ok (.ireturn, 1) := dk_172 (dk_at dksX4_fault_1 0 rfl rfl)
abbrev cX4_apple : ByteArray := prog_23_method_78_code
def yX4_apple : MethodName := ⟨RX4, "apple", "(II)I"⟩
def dkwX4_apple_1 : List UInt8 := [28, 96, 46, 167, 0, 5, 16, 254, 172]
abbrev dktX4_apple_1 : List UInt8 := dkwX4_apple_1 ++ []
def dkwX4_apple_0 : List UInt8 := [42, 27, 182, 2, 48, 153, 0, 25, 28, 3, 7, 184, 1, 238, 153, 0, 16, 42, 180, 0, 124, 8, 27, 104]
abbrev dktX4_apple_0 : List UInt8 := dkwX4_apple_0 ++ dktX4_apple_1
theorem dksX4_apple_0 : cX4_apple.data.toList.drop 0 = dktX4_apple_0 := by decide +kernel
theorem dksX4_apple_1 : cX4_apple.data.toList.drop 24 = dktX4_apple_1 := dk_seg dksX4_apple_0 24 rfl rfl
theorem dX4_apple_0 : decode cX4_apple 0 = .ok (.aload_n 0, 1) := dk_42 (dk_at dksX4_apple_0 0 rfl rfl)
theorem dX4_apple_1 : decode cX4_apple 1 = .ok (.iload_n 1, 1) := dk_27 (dk_at dksX4_apple_0 1 rfl rfl)
theorem dX4_apple_2 : decode cX4_apple 2 = .ok (.invokevirtual 560, 3) := dk_182 2 48 (dk_at dksX4_apple_0 2 rfl rfl)
theorem dX4_apple_5 : decode cX4_apple 5 = .ok (.ifCond .eq 25, 3) := dk_153 0 25 (dk_at dksX4_apple_0 5 rfl rfl)
theorem dX4_apple_8 : decode cX4_apple 8 = .ok (.iload_n 2, 1) := dk_28 (dk_at dksX4_apple_0 8 rfl rfl)
theorem dX4_apple_9 : decode cX4_apple 9 = .ok (.iconst 0, 1) := dk_3 (dk_at dksX4_apple_0 9 rfl rfl)
theorem dX4_apple_10 : decode cX4_apple 10 = .ok (.iconst 4, 1) := dk_7 (dk_at dksX4_apple_0 10 rfl rfl)
theorem dX4_apple_11 : decode cX4_apple 11 = .ok (.invokestatic 494, 3) := dk_184 1 238 (dk_at dksX4_apple_0 11 rfl rfl)
theorem dX4_apple_14 : decode cX4_apple 14 = .ok (.ifCond .eq 16, 3) := dk_153 0 16 (dk_at dksX4_apple_0 14 rfl rfl)
theorem dX4_apple_17 : decode cX4_apple 17 = .ok (.aload_n 0, 1) := dk_42 (dk_at dksX4_apple_0 17 rfl rfl)
theorem dX4_apple_18 : decode cX4_apple 18 = .ok (.getfield 124, 3) := dk_180 0 124 (dk_at dksX4_apple_0 18 rfl rfl)
theorem dX4_apple_21 : decode cX4_apple 21 = .ok (.iconst 5, 1) := dk_8 (dk_at dksX4_apple_0 21 rfl rfl)
theorem dX4_apple_22 : decode cX4_apple 22 = .ok (.iload_n 1, 1) := dk_27 (dk_at dksX4_apple_0 22 rfl rfl)
theorem dX4_apple_23 : decode cX4_apple 23 = .ok (.imul, 1) := dk_104 (dk_at dksX4_apple_0 23 rfl rfl)
theorem dX4_apple_24 : decode cX4_apple 24 = .ok (.iload_n 2, 1) := dk_28 (dk_at dksX4_apple_1 0 rfl rfl)
theorem dX4_apple_25 : decode cX4_apple 25 = .ok (.iadd, 1) := dk_96 (dk_at dksX4_apple_1 1 rfl rfl)
theorem dX4_apple_26 : decode cX4_apple 26 = .ok (.iaload, 1) := dk_46 (dk_at dksX4_apple_1 2 rfl rfl)
theorem dX4_apple_27 : decode cX4_apple 27 = .ok (.goto 5, 3) := dk_167 0 5 (dk_at dksX4_apple_1 3 rfl rfl)
theorem dX4_apple_30 : decode cX4_apple 30 = .ok (.bipush (-2), 2) := dk_16 254 (dk_at dksX4_apple_1 6 rfl rfl)
theorem dX4_apple_32 : decode cX4_apple 32 = .ok (.ireturn, 1) := dk_172 (dk_at dksX4_apple_1 8 rfl rfl)
abbrev cX4_isApple : ByteArray := prog_23_method_51_code
def yX4_isApple : MethodName := ⟨RX4, "isApple", "(I)Z"⟩
def dkwX4_isApple_0 : List UInt8 := [27, 3, 42, 180, 1, 211, 4, 100, 184, 1, 238, 172]
abbrev dktX4_isApple_0 : List UInt8 := dkwX4_isApple_0 ++ []
theorem dksX4_isApple_0 : cX4_isApple.data.toList.drop 0 = dktX4_isApple_0 := by decide +kernel
theorem dX4_isApple_0 : decode cX4_isApple 0 = .ok (.iload_n 1, 1) := dk_27 (dk_at dksX4_isApple_0 0 rfl rfl)
theorem dX4_isApple_1 : decode cX4_isApple 1 = .ok (.iconst 0, 1) := dk_3 (dk_at dksX4_isApple_0 1 rfl rfl)
theorem dX4_isApple_2 : decode cX4_isApple 2 = .ok (.aload_n 0, 1) := dk_42 (dk_at dksX4_isApple_0 2 rfl rfl)
theorem dX4_isApple_3 : decode cX4_isApple 3 = .ok (.getfield 467, 3) := dk_180 1 211 (dk_at dksX4_isApple_0 3 rfl rfl)
theorem dX4_isApple_6 : decode cX4_isApple 6 = .ok (.iconst 1, 1) := dk_4 (dk_at dksX4_isApple_0 6 rfl rfl)
theorem dX4_isApple_7 : decode cX4_isApple 7 = .ok (.isub, 1) := dk_100 (dk_at dksX4_isApple_0 7 rfl rfl)
theorem dX4_isApple_8 : decode cX4_isApple 8 = .ok (.invokestatic 494, 3) := dk_184 1 238 (dk_at dksX4_isApple_0 8 rfl rfl)
theorem dX4_isApple_11 : decode cX4_isApple 11 = .ok (.ireturn, 1) := dk_172 (dk_at dksX4_isApple_0 11 rfl rfl)
abbrev cX4_isIn : ByteArray := prog_23_method_50_code
def yX4_isIn : MethodName := ⟨RX4, "isIn", "(III)Z"⟩
def dkwX4_isIn_0 : List UInt8 := [26, 27, 161, 0, 12, 26, 28, 163, 0, 7, 4, 167, 0, 4, 3, 172]
abbrev dktX4_isIn_0 : List UInt8 := dkwX4_isIn_0 ++ []
theorem dksX4_isIn_0 : cX4_isIn.data.toList.drop 0 = dktX4_isIn_0 := by decide +kernel
theorem dX4_isIn_0 : decode cX4_isIn 0 = .ok (.iload_n 0, 1) := dk_26 (dk_at dksX4_isIn_0 0 rfl rfl)
theorem dX4_isIn_1 : decode cX4_isIn 1 = .ok (.iload_n 1, 1) := dk_27 (dk_at dksX4_isIn_0 1 rfl rfl)
theorem dX4_isIn_2 : decode cX4_isIn 2 = .ok (.if_icmp .lt 12, 3) := dk_161 0 12 (dk_at dksX4_isIn_0 2 rfl rfl)
theorem dX4_isIn_5 : decode cX4_isIn 5 = .ok (.iload_n 0, 1) := dk_26 (dk_at dksX4_isIn_0 5 rfl rfl)
theorem dX4_isIn_6 : decode cX4_isIn 6 = .ok (.iload_n 2, 1) := dk_28 (dk_at dksX4_isIn_0 6 rfl rfl)
theorem dX4_isIn_7 : decode cX4_isIn 7 = .ok (.if_icmp .gt 7, 3) := dk_163 0 7 (dk_at dksX4_isIn_0 7 rfl rfl)
theorem dX4_isIn_10 : decode cX4_isIn 10 = .ok (.iconst 1, 1) := dk_4 (dk_at dksX4_isIn_0 10 rfl rfl)
theorem dX4_isIn_11 : decode cX4_isIn 11 = .ok (.goto 4, 3) := dk_167 0 4 (dk_at dksX4_isIn_0 11 rfl rfl)
theorem dX4_isIn_14 : decode cX4_isIn 14 = .ok (.iconst 0, 1) := dk_3 (dk_at dksX4_isIn_0 14 rfl rfl)
theorem dX4_isIn_15 : decode cX4_isIn 15 = .ok (.ireturn, 1) := dk_172 (dk_at dksX4_isIn_0 15 rfl rfl)
abbrev cX4_bobber : ByteArray := prog_23_method_79_code
def yX4_bobber : MethodName := ⟨RX4, "bobber", "(II)I"⟩
def dkwX4_bobber_1 : List UInt8 := [27, 104, 96, 28, 96, 46, 167, 0, 4, 2, 172]
abbrev dktX4_bobber_1 : List UInt8 := dkwX4_bobber_1 ++ []
def dkwX4_bobber_0 : List UInt8 := [42, 27, 182, 2, 51, 153, 0, 28, 28, 3, 5, 184, 1, 238, 153, 0, 19, 42, 180, 0, 124, 16, 50, 6]
abbrev dktX4_bobber_0 : List UInt8 := dkwX4_bobber_0 ++ dktX4_bobber_1
theorem dksX4_bobber_0 : cX4_bobber.data.toList.drop 0 = dktX4_bobber_0 := by decide +kernel
theorem dksX4_bobber_1 : cX4_bobber.data.toList.drop 24 = dktX4_bobber_1 := dk_seg dksX4_bobber_0 24 rfl rfl
theorem dX4_bobber_0 : decode cX4_bobber 0 = .ok (.aload_n 0, 1) := dk_42 (dk_at dksX4_bobber_0 0 rfl rfl)
theorem dX4_bobber_1 : decode cX4_bobber 1 = .ok (.iload_n 1, 1) := dk_27 (dk_at dksX4_bobber_0 1 rfl rfl)
theorem dX4_bobber_2 : decode cX4_bobber 2 = .ok (.invokevirtual 563, 3) := dk_182 2 51 (dk_at dksX4_bobber_0 2 rfl rfl)
theorem dX4_bobber_5 : decode cX4_bobber 5 = .ok (.ifCond .eq 28, 3) := dk_153 0 28 (dk_at dksX4_bobber_0 5 rfl rfl)
theorem dX4_bobber_8 : decode cX4_bobber 8 = .ok (.iload_n 2, 1) := dk_28 (dk_at dksX4_bobber_0 8 rfl rfl)
theorem dX4_bobber_9 : decode cX4_bobber 9 = .ok (.iconst 0, 1) := dk_3 (dk_at dksX4_bobber_0 9 rfl rfl)
theorem dX4_bobber_10 : decode cX4_bobber 10 = .ok (.iconst 2, 1) := dk_5 (dk_at dksX4_bobber_0 10 rfl rfl)
theorem dX4_bobber_11 : decode cX4_bobber 11 = .ok (.invokestatic 494, 3) := dk_184 1 238 (dk_at dksX4_bobber_0 11 rfl rfl)
theorem dX4_bobber_14 : decode cX4_bobber 14 = .ok (.ifCond .eq 19, 3) := dk_153 0 19 (dk_at dksX4_bobber_0 14 rfl rfl)
theorem dX4_bobber_17 : decode cX4_bobber 17 = .ok (.aload_n 0, 1) := dk_42 (dk_at dksX4_bobber_0 17 rfl rfl)
theorem dX4_bobber_18 : decode cX4_bobber 18 = .ok (.getfield 124, 3) := dk_180 0 124 (dk_at dksX4_bobber_0 18 rfl rfl)
theorem dX4_bobber_21 : decode cX4_bobber 21 = .ok (.bipush 50, 2) := dk_16 50 (dk_at dksX4_bobber_0 21 rfl rfl)
theorem dX4_bobber_23 : decode cX4_bobber 23 = .ok (.iconst 3, 1) := dk_6 (dk_at dksX4_bobber_0 23 rfl rfl)
theorem dX4_bobber_24 : decode cX4_bobber 24 = .ok (.iload_n 1, 1) := dk_27 (dk_at dksX4_bobber_1 0 rfl rfl)
theorem dX4_bobber_25 : decode cX4_bobber 25 = .ok (.imul, 1) := dk_104 (dk_at dksX4_bobber_1 1 rfl rfl)
theorem dX4_bobber_26 : decode cX4_bobber 26 = .ok (.iadd, 1) := dk_96 (dk_at dksX4_bobber_1 2 rfl rfl)
theorem dX4_bobber_27 : decode cX4_bobber 27 = .ok (.iload_n 2, 1) := dk_28 (dk_at dksX4_bobber_1 3 rfl rfl)
theorem dX4_bobber_28 : decode cX4_bobber 28 = .ok (.iadd, 1) := dk_96 (dk_at dksX4_bobber_1 4 rfl rfl)
theorem dX4_bobber_29 : decode cX4_bobber 29 = .ok (.iaload, 1) := dk_46 (dk_at dksX4_bobber_1 5 rfl rfl)
theorem dX4_bobber_30 : decode cX4_bobber 30 = .ok (.goto 4, 3) := dk_167 0 4 (dk_at dksX4_bobber_1 6 rfl rfl)
theorem dX4_bobber_33 : decode cX4_bobber 33 = .ok (.iconst (-1), 1) := dk_2 (dk_at dksX4_bobber_1 9 rfl rfl)
theorem dX4_bobber_34 : decode cX4_bobber 34 = .ok (.ireturn, 1) := dk_172 (dk_at dksX4_bobber_1 10 rfl rfl)
abbrev cX4_isBobber : ByteArray := prog_23_method_52_code
def yX4_isBobber : MethodName := ⟨RX4, "isBobber", "(I)Z"⟩
def dkwX4_isBobber_0 : List UInt8 := [27, 3, 42, 180, 1, 214, 4, 100, 184, 1, 238, 172]
abbrev dktX4_isBobber_0 : List UInt8 := dkwX4_isBobber_0 ++ []
theorem dksX4_isBobber_0 : cX4_isBobber.data.toList.drop 0 = dktX4_isBobber_0 := by decide +kernel
theorem dX4_isBobber_0 : decode cX4_isBobber 0 = .ok (.iload_n 1, 1) := dk_27 (dk_at dksX4_isBobber_0 0 rfl rfl)
theorem dX4_isBobber_1 : decode cX4_isBobber 1 = .ok (.iconst 0, 1) := dk_3 (dk_at dksX4_isBobber_0 1 rfl rfl)
theorem dX4_isBobber_2 : decode cX4_isBobber 2 = .ok (.aload_n 0, 1) := dk_42 (dk_at dksX4_isBobber_0 2 rfl rfl)
theorem dX4_isBobber_3 : decode cX4_isBobber 3 = .ok (.getfield 470, 3) := dk_180 1 214 (dk_at dksX4_isBobber_0 3 rfl rfl)
theorem dX4_isBobber_6 : decode cX4_isBobber 6 = .ok (.iconst 1, 1) := dk_4 (dk_at dksX4_isBobber_0 6 rfl rfl)
theorem dX4_isBobber_7 : decode cX4_isBobber 7 = .ok (.isub, 1) := dk_100 (dk_at dksX4_isBobber_0 7 rfl rfl)
theorem dX4_isBobber_8 : decode cX4_isBobber 8 = .ok (.invokestatic 494, 3) := dk_184 1 238 (dk_at dksX4_isBobber_0 8 rfl rfl)
theorem dX4_isBobber_11 : decode cX4_isBobber 11 = .ok (.ireturn, 1) := dk_172 (dk_at dksX4_isBobber_0 11 rfl rfl)
abbrev cX4_odds : ByteArray := prog_23_method_81_code
def yX4_odds : MethodName := ⟨RX4, "odds", "(III)I"⟩
def dkwX4_odds_0 : List UInt8 := [42, 27, 28, 29, 182, 2, 57, 153, 0, 13, 42, 27, 28, 29, 182, 2, 26, 167, 0, 4, 2, 172]
abbrev dktX4_odds_0 : List UInt8 := dkwX4_odds_0 ++ []
theorem dksX4_odds_0 : cX4_odds.data.toList.drop 0 = dktX4_odds_0 := by decide +kernel
theorem dX4_odds_0 : decode cX4_odds 0 = .ok (.aload_n 0, 1) := dk_42 (dk_at dksX4_odds_0 0 rfl rfl)
theorem dX4_odds_1 : decode cX4_odds 1 = .ok (.iload_n 1, 1) := dk_27 (dk_at dksX4_odds_0 1 rfl rfl)
theorem dX4_odds_2 : decode cX4_odds 2 = .ok (.iload_n 2, 1) := dk_28 (dk_at dksX4_odds_0 2 rfl rfl)
theorem dX4_odds_3 : decode cX4_odds 3 = .ok (.iload_n 3, 1) := dk_29 (dk_at dksX4_odds_0 3 rfl rfl)
theorem dX4_odds_4 : decode cX4_odds 4 = .ok (.invokevirtual 569, 3) := dk_182 2 57 (dk_at dksX4_odds_0 4 rfl rfl)
theorem dX4_odds_7 : decode cX4_odds 7 = .ok (.ifCond .eq 13, 3) := dk_153 0 13 (dk_at dksX4_odds_0 7 rfl rfl)
theorem dX4_odds_10 : decode cX4_odds 10 = .ok (.aload_n 0, 1) := dk_42 (dk_at dksX4_odds_0 10 rfl rfl)
theorem dX4_odds_11 : decode cX4_odds 11 = .ok (.iload_n 1, 1) := dk_27 (dk_at dksX4_odds_0 11 rfl rfl)
theorem dX4_odds_12 : decode cX4_odds 12 = .ok (.iload_n 2, 1) := dk_28 (dk_at dksX4_odds_0 12 rfl rfl)
theorem dX4_odds_13 : decode cX4_odds 13 = .ok (.iload_n 3, 1) := dk_29 (dk_at dksX4_odds_0 13 rfl rfl)
theorem dX4_odds_14 : decode cX4_odds 14 = .ok (.invokevirtual 538, 3) := dk_182 2 26 (dk_at dksX4_odds_0 14 rfl rfl)
theorem dX4_odds_17 : decode cX4_odds 17 = .ok (.goto 4, 3) := dk_167 0 4 (dk_at dksX4_odds_0 17 rfl rfl)
theorem dX4_odds_20 : decode cX4_odds 20 = .ok (.iconst (-1), 1) := dk_2 (dk_at dksX4_odds_0 20 rfl rfl)
theorem dX4_odds_21 : decode cX4_odds 21 = .ok (.ireturn, 1) := dk_172 (dk_at dksX4_odds_0 21 rfl rfl)
abbrev cX4_mayTry : ByteArray := prog_23_method_80_code
def yX4_mayTry : MethodName := ⟨RX4, "mayTry", "(III)Z"⟩
def dkwX4_mayTry_1 : List UInt8 := [184, 1, 238, 153, 0, 17, 42, 27, 28, 29, 182, 2, 36, 153, 0, 7, 4, 167, 0, 4, 3, 172]
abbrev dktX4_mayTry_1 : List UInt8 := dkwX4_mayTry_1 ++ []
def dkwX4_mayTry_0 : List UInt8 := [42, 182, 2, 54, 42, 27, 182, 2, 51, 153, 0, 34, 42, 28, 182, 2, 48, 153, 0, 26, 29, 3, 7]
abbrev dktX4_mayTry_0 : List UInt8 := dkwX4_mayTry_0 ++ dktX4_mayTry_1
theorem dksX4_mayTry_0 : cX4_mayTry.data.toList.drop 0 = dktX4_mayTry_0 := by decide +kernel
theorem dksX4_mayTry_1 : cX4_mayTry.data.toList.drop 23 = dktX4_mayTry_1 := dk_seg dksX4_mayTry_0 23 rfl rfl
theorem dX4_mayTry_0 : decode cX4_mayTry 0 = .ok (.aload_n 0, 1) := dk_42 (dk_at dksX4_mayTry_0 0 rfl rfl)
theorem dX4_mayTry_1 : decode cX4_mayTry 1 = .ok (.invokevirtual 566, 3) := dk_182 2 54 (dk_at dksX4_mayTry_0 1 rfl rfl)
theorem dX4_mayTry_4 : decode cX4_mayTry 4 = .ok (.aload_n 0, 1) := dk_42 (dk_at dksX4_mayTry_0 4 rfl rfl)
theorem dX4_mayTry_5 : decode cX4_mayTry 5 = .ok (.iload_n 1, 1) := dk_27 (dk_at dksX4_mayTry_0 5 rfl rfl)
theorem dX4_mayTry_6 : decode cX4_mayTry 6 = .ok (.invokevirtual 563, 3) := dk_182 2 51 (dk_at dksX4_mayTry_0 6 rfl rfl)
theorem dX4_mayTry_9 : decode cX4_mayTry 9 = .ok (.ifCond .eq 34, 3) := dk_153 0 34 (dk_at dksX4_mayTry_0 9 rfl rfl)
theorem dX4_mayTry_12 : decode cX4_mayTry 12 = .ok (.aload_n 0, 1) := dk_42 (dk_at dksX4_mayTry_0 12 rfl rfl)
theorem dX4_mayTry_13 : decode cX4_mayTry 13 = .ok (.iload_n 2, 1) := dk_28 (dk_at dksX4_mayTry_0 13 rfl rfl)
theorem dX4_mayTry_14 : decode cX4_mayTry 14 = .ok (.invokevirtual 560, 3) := dk_182 2 48 (dk_at dksX4_mayTry_0 14 rfl rfl)
theorem dX4_mayTry_17 : decode cX4_mayTry 17 = .ok (.ifCond .eq 26, 3) := dk_153 0 26 (dk_at dksX4_mayTry_0 17 rfl rfl)
theorem dX4_mayTry_20 : decode cX4_mayTry 20 = .ok (.iload_n 3, 1) := dk_29 (dk_at dksX4_mayTry_0 20 rfl rfl)
theorem dX4_mayTry_21 : decode cX4_mayTry 21 = .ok (.iconst 0, 1) := dk_3 (dk_at dksX4_mayTry_0 21 rfl rfl)
theorem dX4_mayTry_22 : decode cX4_mayTry 22 = .ok (.iconst 4, 1) := dk_7 (dk_at dksX4_mayTry_0 22 rfl rfl)
theorem dX4_mayTry_23 : decode cX4_mayTry 23 = .ok (.invokestatic 494, 3) := dk_184 1 238 (dk_at dksX4_mayTry_1 0 rfl rfl)
theorem dX4_mayTry_26 : decode cX4_mayTry 26 = .ok (.ifCond .eq 17, 3) := dk_153 0 17 (dk_at dksX4_mayTry_1 3 rfl rfl)
theorem dX4_mayTry_29 : decode cX4_mayTry 29 = .ok (.aload_n 0, 1) := dk_42 (dk_at dksX4_mayTry_1 6 rfl rfl)
theorem dX4_mayTry_30 : decode cX4_mayTry 30 = .ok (.iload_n 1, 1) := dk_27 (dk_at dksX4_mayTry_1 7 rfl rfl)
theorem dX4_mayTry_31 : decode cX4_mayTry 31 = .ok (.iload_n 2, 1) := dk_28 (dk_at dksX4_mayTry_1 8 rfl rfl)
theorem dX4_mayTry_32 : decode cX4_mayTry 32 = .ok (.iload_n 3, 1) := dk_29 (dk_at dksX4_mayTry_1 9 rfl rfl)
theorem dX4_mayTry_33 : decode cX4_mayTry 33 = .ok (.invokevirtual 548, 3) := dk_182 2 36 (dk_at dksX4_mayTry_1 10 rfl rfl)
theorem dX4_mayTry_36 : decode cX4_mayTry 36 = .ok (.ifCond .eq 7, 3) := dk_153 0 7 (dk_at dksX4_mayTry_1 13 rfl rfl)
theorem dX4_mayTry_39 : decode cX4_mayTry 39 = .ok (.iconst 1, 1) := dk_4 (dk_at dksX4_mayTry_1 16 rfl rfl)
theorem dX4_mayTry_40 : decode cX4_mayTry 40 = .ok (.goto 4, 3) := dk_167 0 4 (dk_at dksX4_mayTry_1 17 rfl rfl)
theorem dX4_mayTry_43 : decode cX4_mayTry 43 = .ok (.iconst 0, 1) := dk_3 (dk_at dksX4_mayTry_1 20 rfl rfl)
theorem dX4_mayTry_44 : decode cX4_mayTry 44 = .ok (.ireturn, 1) := dk_172 (dk_at dksX4_mayTry_1 21 rfl rfl)
abbrev cX4_load : ByteArray := prog_23_method_55_code
def yX4_load : MethodName := ⟨RX4, "load", "()V"⟩
def dkwX4_load_1 : List UInt8 := [167, 255, 235, 177]
abbrev dktX4_load_1 : List UInt8 := dkwX4_load_1 ++ []
def dkwX4_load_0 : List UInt8 := [3, 60, 27, 16, 123, 162, 0, 21, 42, 180, 0, 121, 27, 42, 180, 0, 124, 27, 46, 79, 132, 1, 1]
abbrev dktX4_load_0 : List UInt8 := dkwX4_load_0 ++ dktX4_load_1
theorem dksX4_load_0 : cX4_load.data.toList.drop 0 = dktX4_load_0 := by decide +kernel
theorem dksX4_load_1 : cX4_load.data.toList.drop 23 = dktX4_load_1 := dk_seg dksX4_load_0 23 rfl rfl
theorem dX4_load_0 : decode cX4_load 0 = .ok (.iconst 0, 1) := dk_3 (dk_at dksX4_load_0 0 rfl rfl)
theorem dX4_load_1 : decode cX4_load 1 = .ok (.istore_n 1, 1) := dk_60 (dk_at dksX4_load_0 1 rfl rfl)
theorem dX4_load_2 : decode cX4_load 2 = .ok (.iload_n 1, 1) := dk_27 (dk_at dksX4_load_0 2 rfl rfl)
theorem dX4_load_3 : decode cX4_load 3 = .ok (.bipush 123, 2) := dk_16 123 (dk_at dksX4_load_0 3 rfl rfl)
theorem dX4_load_5 : decode cX4_load 5 = .ok (.if_icmp .ge 21, 3) := dk_162 0 21 (dk_at dksX4_load_0 5 rfl rfl)
theorem dX4_load_8 : decode cX4_load 8 = .ok (.aload_n 0, 1) := dk_42 (dk_at dksX4_load_0 8 rfl rfl)
theorem dX4_load_9 : decode cX4_load 9 = .ok (.getfield 121, 3) := dk_180 0 121 (dk_at dksX4_load_0 9 rfl rfl)
theorem dX4_load_12 : decode cX4_load 12 = .ok (.iload_n 1, 1) := dk_27 (dk_at dksX4_load_0 12 rfl rfl)
theorem dX4_load_13 : decode cX4_load 13 = .ok (.aload_n 0, 1) := dk_42 (dk_at dksX4_load_0 13 rfl rfl)
theorem dX4_load_14 : decode cX4_load 14 = .ok (.getfield 124, 3) := dk_180 0 124 (dk_at dksX4_load_0 14 rfl rfl)
theorem dX4_load_17 : decode cX4_load 17 = .ok (.iload_n 1, 1) := dk_27 (dk_at dksX4_load_0 17 rfl rfl)
theorem dX4_load_18 : decode cX4_load 18 = .ok (.iaload, 1) := dk_46 (dk_at dksX4_load_0 18 rfl rfl)
theorem dX4_load_19 : decode cX4_load 19 = .ok (.iastore, 1) := dk_79 (dk_at dksX4_load_0 19 rfl rfl)
theorem dX4_load_20 : decode cX4_load 20 = .ok (.iinc 1 1, 3) := dk_132 1 1 (dk_at dksX4_load_0 20 rfl rfl)
theorem dX4_load_23 : decode cX4_load 23 = .ok (.goto (-21), 3) := dk_167 255 235 (dk_at dksX4_load_1 0 rfl rfl)
theorem dX4_load_26 : decode cX4_load 26 = .ok (.return_, 1) := dk_177 (dk_at dksX4_load_1 3 rfl rfl)
abbrev cX4_canTry : ByteArray := prog_23_method_65_code
def yX4_canTry : MethodName := ⟨RX4, "canTry", "(III)Z"⟩
def dkwX4_canTry_3 : List UInt8 := [160, 0, 12, 42, 27, 28, 182, 1, 251, 153, 0, 7, 4, 167, 0, 4, 3, 172]
abbrev dktX4_canTry_3 : List UInt8 := dkwX4_canTry_3 ++ []
def dkwX4_canTry_2 : List UInt8 := [180, 0, 115, 28, 51, 153, 0, 34, 29, 5, 160, 0, 11, 42, 28, 182, 1, 102, 153, 0, 21, 29, 7]
abbrev dktX4_canTry_2 : List UInt8 := dkwX4_canTry_2 ++ dktX4_canTry_3
def dkwX4_canTry_1 : List UInt8 := [180, 0, 121, 16, 50, 6, 27, 104, 96, 46, 29, 184, 1, 248, 161, 0, 48, 29, 4, 160, 0, 12, 42]
abbrev dktX4_canTry_1 : List UInt8 := dkwX4_canTry_1 ++ dktX4_canTry_2
def dkwX4_canTry_0 : List UInt8 := [42, 28, 182, 1, 245, 153, 0, 81, 42, 27, 28, 182, 1, 105, 42, 180, 0, 103, 27, 46, 163, 0, 66, 42]
abbrev dktX4_canTry_0 : List UInt8 := dkwX4_canTry_0 ++ dktX4_canTry_1
theorem dksX4_canTry_0 : cX4_canTry.data.toList.drop 0 = dktX4_canTry_0 := by decide +kernel
theorem dksX4_canTry_1 : cX4_canTry.data.toList.drop 24 = dktX4_canTry_1 := dk_seg dksX4_canTry_0 24 rfl rfl
theorem dksX4_canTry_2 : cX4_canTry.data.toList.drop 47 = dktX4_canTry_2 := dk_seg dksX4_canTry_1 23 rfl rfl
theorem dksX4_canTry_3 : cX4_canTry.data.toList.drop 70 = dktX4_canTry_3 := dk_seg dksX4_canTry_2 23 rfl rfl
theorem dX4_canTry_0 : decode cX4_canTry 0 = .ok (.aload_n 0, 1) := dk_42 (dk_at dksX4_canTry_0 0 rfl rfl)
theorem dX4_canTry_1 : decode cX4_canTry 1 = .ok (.iload_n 2, 1) := dk_28 (dk_at dksX4_canTry_0 1 rfl rfl)
theorem dX4_canTry_2 : decode cX4_canTry 2 = .ok (.invokevirtual 501, 3) := dk_182 1 245 (dk_at dksX4_canTry_0 2 rfl rfl)
theorem dX4_canTry_5 : decode cX4_canTry 5 = .ok (.ifCond .eq 81, 3) := dk_153 0 81 (dk_at dksX4_canTry_0 5 rfl rfl)
theorem dX4_canTry_8 : decode cX4_canTry 8 = .ok (.aload_n 0, 1) := dk_42 (dk_at dksX4_canTry_0 8 rfl rfl)
theorem dX4_canTry_9 : decode cX4_canTry 9 = .ok (.iload_n 1, 1) := dk_27 (dk_at dksX4_canTry_0 9 rfl rfl)
theorem dX4_canTry_10 : decode cX4_canTry 10 = .ok (.iload_n 2, 1) := dk_28 (dk_at dksX4_canTry_0 10 rfl rfl)
theorem dX4_canTry_11 : decode cX4_canTry 11 = .ok (.invokevirtual 361, 3) := dk_182 1 105 (dk_at dksX4_canTry_0 11 rfl rfl)
theorem dX4_canTry_14 : decode cX4_canTry 14 = .ok (.aload_n 0, 1) := dk_42 (dk_at dksX4_canTry_0 14 rfl rfl)
theorem dX4_canTry_15 : decode cX4_canTry 15 = .ok (.getfield 103, 3) := dk_180 0 103 (dk_at dksX4_canTry_0 15 rfl rfl)
theorem dX4_canTry_18 : decode cX4_canTry 18 = .ok (.iload_n 1, 1) := dk_27 (dk_at dksX4_canTry_0 18 rfl rfl)
theorem dX4_canTry_19 : decode cX4_canTry 19 = .ok (.iaload, 1) := dk_46 (dk_at dksX4_canTry_0 19 rfl rfl)
theorem dX4_canTry_20 : decode cX4_canTry 20 = .ok (.if_icmp .gt 66, 3) := dk_163 0 66 (dk_at dksX4_canTry_0 20 rfl rfl)
theorem dX4_canTry_23 : decode cX4_canTry 23 = .ok (.aload_n 0, 1) := dk_42 (dk_at dksX4_canTry_0 23 rfl rfl)
theorem dX4_canTry_24 : decode cX4_canTry 24 = .ok (.getfield 121, 3) := dk_180 0 121 (dk_at dksX4_canTry_1 0 rfl rfl)
theorem dX4_canTry_27 : decode cX4_canTry 27 = .ok (.bipush 50, 2) := dk_16 50 (dk_at dksX4_canTry_1 3 rfl rfl)
theorem dX4_canTry_29 : decode cX4_canTry 29 = .ok (.iconst 3, 1) := dk_6 (dk_at dksX4_canTry_1 5 rfl rfl)
theorem dX4_canTry_30 : decode cX4_canTry 30 = .ok (.iload_n 1, 1) := dk_27 (dk_at dksX4_canTry_1 6 rfl rfl)
theorem dX4_canTry_31 : decode cX4_canTry 31 = .ok (.imul, 1) := dk_104 (dk_at dksX4_canTry_1 7 rfl rfl)
theorem dX4_canTry_32 : decode cX4_canTry 32 = .ok (.iadd, 1) := dk_96 (dk_at dksX4_canTry_1 8 rfl rfl)
theorem dX4_canTry_33 : decode cX4_canTry 33 = .ok (.iaload, 1) := dk_46 (dk_at dksX4_canTry_1 9 rfl rfl)
theorem dX4_canTry_34 : decode cX4_canTry 34 = .ok (.iload_n 3, 1) := dk_29 (dk_at dksX4_canTry_1 10 rfl rfl)
theorem dX4_canTry_35 : decode cX4_canTry 35 = .ok (.invokestatic 504, 3) := dk_184 1 248 (dk_at dksX4_canTry_1 11 rfl rfl)
theorem dX4_canTry_38 : decode cX4_canTry 38 = .ok (.if_icmp .lt 48, 3) := dk_161 0 48 (dk_at dksX4_canTry_1 14 rfl rfl)
theorem dX4_canTry_41 : decode cX4_canTry 41 = .ok (.iload_n 3, 1) := dk_29 (dk_at dksX4_canTry_1 17 rfl rfl)
theorem dX4_canTry_42 : decode cX4_canTry 42 = .ok (.iconst 1, 1) := dk_4 (dk_at dksX4_canTry_1 18 rfl rfl)
theorem dX4_canTry_43 : decode cX4_canTry 43 = .ok (.if_icmp .ne 12, 3) := dk_160 0 12 (dk_at dksX4_canTry_1 19 rfl rfl)
theorem dX4_canTry_46 : decode cX4_canTry 46 = .ok (.aload_n 0, 1) := dk_42 (dk_at dksX4_canTry_1 22 rfl rfl)
theorem dX4_canTry_47 : decode cX4_canTry 47 = .ok (.getfield 115, 3) := dk_180 0 115 (dk_at dksX4_canTry_2 0 rfl rfl)
theorem dX4_canTry_50 : decode cX4_canTry 50 = .ok (.iload_n 2, 1) := dk_28 (dk_at dksX4_canTry_2 3 rfl rfl)
theorem dX4_canTry_51 : decode cX4_canTry 51 = .ok (.baload, 1) := dk_51 (dk_at dksX4_canTry_2 4 rfl rfl)
theorem dX4_canTry_52 : decode cX4_canTry 52 = .ok (.ifCond .eq 34, 3) := dk_153 0 34 (dk_at dksX4_canTry_2 5 rfl rfl)
theorem dX4_canTry_55 : decode cX4_canTry 55 = .ok (.iload_n 3, 1) := dk_29 (dk_at dksX4_canTry_2 8 rfl rfl)
theorem dX4_canTry_56 : decode cX4_canTry 56 = .ok (.iconst 2, 1) := dk_5 (dk_at dksX4_canTry_2 9 rfl rfl)
theorem dX4_canTry_57 : decode cX4_canTry 57 = .ok (.if_icmp .ne 11, 3) := dk_160 0 11 (dk_at dksX4_canTry_2 10 rfl rfl)
theorem dX4_canTry_60 : decode cX4_canTry 60 = .ok (.aload_n 0, 1) := dk_42 (dk_at dksX4_canTry_2 13 rfl rfl)
theorem dX4_canTry_61 : decode cX4_canTry 61 = .ok (.iload_n 2, 1) := dk_28 (dk_at dksX4_canTry_2 14 rfl rfl)
theorem dX4_canTry_62 : decode cX4_canTry 62 = .ok (.invokevirtual 358, 3) := dk_182 1 102 (dk_at dksX4_canTry_2 15 rfl rfl)
theorem dX4_canTry_65 : decode cX4_canTry 65 = .ok (.ifCond .eq 21, 3) := dk_153 0 21 (dk_at dksX4_canTry_2 18 rfl rfl)
theorem dX4_canTry_68 : decode cX4_canTry 68 = .ok (.iload_n 3, 1) := dk_29 (dk_at dksX4_canTry_2 21 rfl rfl)
theorem dX4_canTry_69 : decode cX4_canTry 69 = .ok (.iconst 4, 1) := dk_7 (dk_at dksX4_canTry_2 22 rfl rfl)
theorem dX4_canTry_70 : decode cX4_canTry 70 = .ok (.if_icmp .ne 12, 3) := dk_160 0 12 (dk_at dksX4_canTry_3 0 rfl rfl)
theorem dX4_canTry_73 : decode cX4_canTry 73 = .ok (.aload_n 0, 1) := dk_42 (dk_at dksX4_canTry_3 3 rfl rfl)
theorem dX4_canTry_74 : decode cX4_canTry 74 = .ok (.iload_n 1, 1) := dk_27 (dk_at dksX4_canTry_3 4 rfl rfl)
theorem dX4_canTry_75 : decode cX4_canTry 75 = .ok (.iload_n 2, 1) := dk_28 (dk_at dksX4_canTry_3 5 rfl rfl)
theorem dX4_canTry_76 : decode cX4_canTry 76 = .ok (.invokevirtual 507, 3) := dk_182 1 251 (dk_at dksX4_canTry_3 6 rfl rfl)
theorem dX4_canTry_79 : decode cX4_canTry 79 = .ok (.ifCond .eq 7, 3) := dk_153 0 7 (dk_at dksX4_canTry_3 9 rfl rfl)
theorem dX4_canTry_82 : decode cX4_canTry 82 = .ok (.iconst 1, 1) := dk_4 (dk_at dksX4_canTry_3 12 rfl rfl)
theorem dX4_canTry_83 : decode cX4_canTry 83 = .ok (.goto 4, 3) := dk_167 0 4 (dk_at dksX4_canTry_3 13 rfl rfl)
theorem dX4_canTry_86 : decode cX4_canTry 86 = .ok (.iconst 0, 1) := dk_3 (dk_at dksX4_canTry_3 16 rfl rfl)
theorem dX4_canTry_87 : decode cX4_canTry 87 = .ok (.ireturn, 1) := dk_172 (dk_at dksX4_canTry_3 17 rfl rfl)
abbrev cX4_isAfloat : ByteArray := prog_23_method_60_code
def yX4_isAfloat : MethodName := ⟨RX4, "isAfloat", "(I)Z"⟩
def dkwX4_isAfloat_0 : List UInt8 := [42, 180, 0, 121, 8, 27, 104, 5, 96, 46, 156, 0, 7, 4, 167, 0, 4, 3, 172]
abbrev dktX4_isAfloat_0 : List UInt8 := dkwX4_isAfloat_0 ++ []
theorem dksX4_isAfloat_0 : cX4_isAfloat.data.toList.drop 0 = dktX4_isAfloat_0 := by decide +kernel
theorem dX4_isAfloat_0 : decode cX4_isAfloat 0 = .ok (.aload_n 0, 1) := dk_42 (dk_at dksX4_isAfloat_0 0 rfl rfl)
theorem dX4_isAfloat_1 : decode cX4_isAfloat 1 = .ok (.getfield 121, 3) := dk_180 0 121 (dk_at dksX4_isAfloat_0 1 rfl rfl)
theorem dX4_isAfloat_4 : decode cX4_isAfloat 4 = .ok (.iconst 5, 1) := dk_8 (dk_at dksX4_isAfloat_0 4 rfl rfl)
theorem dX4_isAfloat_5 : decode cX4_isAfloat 5 = .ok (.iload_n 1, 1) := dk_27 (dk_at dksX4_isAfloat_0 5 rfl rfl)
theorem dX4_isAfloat_6 : decode cX4_isAfloat 6 = .ok (.imul, 1) := dk_104 (dk_at dksX4_isAfloat_0 6 rfl rfl)
theorem dX4_isAfloat_7 : decode cX4_isAfloat 7 = .ok (.iconst 2, 1) := dk_5 (dk_at dksX4_isAfloat_0 7 rfl rfl)
theorem dX4_isAfloat_8 : decode cX4_isAfloat 8 = .ok (.iadd, 1) := dk_96 (dk_at dksX4_isAfloat_0 8 rfl rfl)
theorem dX4_isAfloat_9 : decode cX4_isAfloat 9 = .ok (.iaload, 1) := dk_46 (dk_at dksX4_isAfloat_0 9 rfl rfl)
theorem dX4_isAfloat_10 : decode cX4_isAfloat 10 = .ok (.ifCond .ge 7, 3) := dk_156 0 7 (dk_at dksX4_isAfloat_0 10 rfl rfl)
theorem dX4_isAfloat_13 : decode cX4_isAfloat 13 = .ok (.iconst 1, 1) := dk_4 (dk_at dksX4_isAfloat_0 13 rfl rfl)
theorem dX4_isAfloat_14 : decode cX4_isAfloat 14 = .ok (.goto 4, 3) := dk_167 0 4 (dk_at dksX4_isAfloat_0 14 rfl rfl)
theorem dX4_isAfloat_17 : decode cX4_isAfloat 17 = .ok (.iconst 0, 1) := dk_3 (dk_at dksX4_isAfloat_0 17 rfl rfl)
theorem dX4_isAfloat_18 : decode cX4_isAfloat 18 = .ok (.ireturn, 1) := dk_172 (dk_at dksX4_isAfloat_0 18 rfl rfl)
abbrev cX4_far : ByteArray := prog_23_method_59_code
def yX4_far : MethodName := ⟨RX4, "far", "(II)I"⟩
def dkwX4_far_2 : List UInt8 := [167, 0, 5, 21, 4, 172]
abbrev dktX4_far_2 : List UInt8 := dkwX4_far_2 ++ []
def dkwX4_far_1 : List UInt8 := [28, 104, 4, 96, 46, 42, 180, 0, 100, 27, 46, 100, 184, 1, 242, 54, 4, 29, 21, 4, 164, 0, 7, 29]
abbrev dktX4_far_1 : List UInt8 := dkwX4_far_1 ++ dktX4_far_2
def dkwX4_far_0 : List UInt8 := [42, 180, 0, 121, 8, 28, 104, 46, 42, 180, 0, 97, 27, 46, 100, 184, 1, 242, 62, 42, 180, 0, 121, 8]
abbrev dktX4_far_0 : List UInt8 := dkwX4_far_0 ++ dktX4_far_1
theorem dksX4_far_0 : cX4_far.data.toList.drop 0 = dktX4_far_0 := by decide +kernel
theorem dksX4_far_1 : cX4_far.data.toList.drop 24 = dktX4_far_1 := dk_seg dksX4_far_0 24 rfl rfl
theorem dksX4_far_2 : cX4_far.data.toList.drop 48 = dktX4_far_2 := dk_seg dksX4_far_1 24 rfl rfl
theorem dX4_far_0 : decode cX4_far 0 = .ok (.aload_n 0, 1) := dk_42 (dk_at dksX4_far_0 0 rfl rfl)
theorem dX4_far_1 : decode cX4_far 1 = .ok (.getfield 121, 3) := dk_180 0 121 (dk_at dksX4_far_0 1 rfl rfl)
theorem dX4_far_4 : decode cX4_far 4 = .ok (.iconst 5, 1) := dk_8 (dk_at dksX4_far_0 4 rfl rfl)
theorem dX4_far_5 : decode cX4_far 5 = .ok (.iload_n 2, 1) := dk_28 (dk_at dksX4_far_0 5 rfl rfl)
theorem dX4_far_6 : decode cX4_far 6 = .ok (.imul, 1) := dk_104 (dk_at dksX4_far_0 6 rfl rfl)
theorem dX4_far_7 : decode cX4_far 7 = .ok (.iaload, 1) := dk_46 (dk_at dksX4_far_0 7 rfl rfl)
theorem dX4_far_8 : decode cX4_far 8 = .ok (.aload_n 0, 1) := dk_42 (dk_at dksX4_far_0 8 rfl rfl)
theorem dX4_far_9 : decode cX4_far 9 = .ok (.getfield 97, 3) := dk_180 0 97 (dk_at dksX4_far_0 9 rfl rfl)
theorem dX4_far_12 : decode cX4_far 12 = .ok (.iload_n 1, 1) := dk_27 (dk_at dksX4_far_0 12 rfl rfl)
theorem dX4_far_13 : decode cX4_far 13 = .ok (.iaload, 1) := dk_46 (dk_at dksX4_far_0 13 rfl rfl)
theorem dX4_far_14 : decode cX4_far 14 = .ok (.isub, 1) := dk_100 (dk_at dksX4_far_0 14 rfl rfl)
theorem dX4_far_15 : decode cX4_far 15 = .ok (.invokestatic 498, 3) := dk_184 1 242 (dk_at dksX4_far_0 15 rfl rfl)
theorem dX4_far_18 : decode cX4_far 18 = .ok (.istore_n 3, 1) := dk_62 (dk_at dksX4_far_0 18 rfl rfl)
theorem dX4_far_19 : decode cX4_far 19 = .ok (.aload_n 0, 1) := dk_42 (dk_at dksX4_far_0 19 rfl rfl)
theorem dX4_far_20 : decode cX4_far 20 = .ok (.getfield 121, 3) := dk_180 0 121 (dk_at dksX4_far_0 20 rfl rfl)
theorem dX4_far_23 : decode cX4_far 23 = .ok (.iconst 5, 1) := dk_8 (dk_at dksX4_far_0 23 rfl rfl)
theorem dX4_far_24 : decode cX4_far 24 = .ok (.iload_n 2, 1) := dk_28 (dk_at dksX4_far_1 0 rfl rfl)
theorem dX4_far_25 : decode cX4_far 25 = .ok (.imul, 1) := dk_104 (dk_at dksX4_far_1 1 rfl rfl)
theorem dX4_far_26 : decode cX4_far 26 = .ok (.iconst 1, 1) := dk_4 (dk_at dksX4_far_1 2 rfl rfl)
theorem dX4_far_27 : decode cX4_far 27 = .ok (.iadd, 1) := dk_96 (dk_at dksX4_far_1 3 rfl rfl)
theorem dX4_far_28 : decode cX4_far 28 = .ok (.iaload, 1) := dk_46 (dk_at dksX4_far_1 4 rfl rfl)
theorem dX4_far_29 : decode cX4_far 29 = .ok (.aload_n 0, 1) := dk_42 (dk_at dksX4_far_1 5 rfl rfl)
theorem dX4_far_30 : decode cX4_far 30 = .ok (.getfield 100, 3) := dk_180 0 100 (dk_at dksX4_far_1 6 rfl rfl)
theorem dX4_far_33 : decode cX4_far 33 = .ok (.iload_n 1, 1) := dk_27 (dk_at dksX4_far_1 9 rfl rfl)
theorem dX4_far_34 : decode cX4_far 34 = .ok (.iaload, 1) := dk_46 (dk_at dksX4_far_1 10 rfl rfl)
theorem dX4_far_35 : decode cX4_far 35 = .ok (.isub, 1) := dk_100 (dk_at dksX4_far_1 11 rfl rfl)
theorem dX4_far_36 : decode cX4_far 36 = .ok (.invokestatic 498, 3) := dk_184 1 242 (dk_at dksX4_far_1 12 rfl rfl)
theorem dX4_far_39 : decode cX4_far 39 = .ok (.istore 4, 2) := dk_54 4 (dk_at dksX4_far_1 15 rfl rfl)
theorem dX4_far_41 : decode cX4_far 41 = .ok (.iload_n 3, 1) := dk_29 (dk_at dksX4_far_1 17 rfl rfl)
theorem dX4_far_42 : decode cX4_far 42 = .ok (.iload 4, 2) := dk_21 4 (dk_at dksX4_far_1 18 rfl rfl)
theorem dX4_far_44 : decode cX4_far 44 = .ok (.if_icmp .le 7, 3) := dk_164 0 7 (dk_at dksX4_far_1 20 rfl rfl)
theorem dX4_far_47 : decode cX4_far 47 = .ok (.iload_n 3, 1) := dk_29 (dk_at dksX4_far_1 23 rfl rfl)
theorem dX4_far_48 : decode cX4_far 48 = .ok (.goto 5, 3) := dk_167 0 5 (dk_at dksX4_far_2 0 rfl rfl)
theorem dX4_far_51 : decode cX4_far 51 = .ok (.iload 4, 2) := dk_21 4 (dk_at dksX4_far_2 3 rfl rfl)
theorem dX4_far_53 : decode cX4_far 53 = .ok (.ireturn, 1) := dk_172 (dk_at dksX4_far_2 5 rfl rfl)
abbrev cX4_amount : ByteArray := prog_23_method_58_code
def yX4_amount : MethodName := ⟨RX4, "amount", "(I)I"⟩
def dkwX4_amount_0 : List UInt8 := [26, 156, 0, 8, 26, 116, 167, 0, 4, 26, 172]
abbrev dktX4_amount_0 : List UInt8 := dkwX4_amount_0 ++ []
theorem dksX4_amount_0 : cX4_amount.data.toList.drop 0 = dktX4_amount_0 := by decide +kernel
theorem dX4_amount_0 : decode cX4_amount 0 = .ok (.iload_n 0, 1) := dk_26 (dk_at dksX4_amount_0 0 rfl rfl)
theorem dX4_amount_1 : decode cX4_amount 1 = .ok (.ifCond .ge 8, 3) := dk_156 0 8 (dk_at dksX4_amount_0 1 rfl rfl)
theorem dX4_amount_4 : decode cX4_amount 4 = .ok (.iload_n 0, 1) := dk_26 (dk_at dksX4_amount_0 4 rfl rfl)
theorem dX4_amount_5 : decode cX4_amount 5 = .ok (.ineg, 1) := dk_116 (dk_at dksX4_amount_0 5 rfl rfl)
theorem dX4_amount_6 : decode cX4_amount 6 = .ok (.goto 4, 3) := dk_167 0 4 (dk_at dksX4_amount_0 6 rfl rfl)
theorem dX4_amount_9 : decode cX4_amount 9 = .ok (.iload_n 0, 1) := dk_26 (dk_at dksX4_amount_0 9 rfl rfl)
theorem dX4_amount_10 : decode cX4_amount 10 = .ok (.ireturn, 1) := dk_172 (dk_at dksX4_amount_0 10 rfl rfl)
abbrev cX4_takesBreath : ByteArray := prog_23_method_64_code
def yX4_takesBreath : MethodName := ⟨RX4, "takesBreath", "(I)I"⟩
def dkwX4_takesBreath_0 : List UInt8 := [26, 5, 160, 0, 7, 4, 167, 0, 13, 26, 6, 160, 0, 7, 6, 167, 0, 4, 3, 172]
abbrev dktX4_takesBreath_0 : List UInt8 := dkwX4_takesBreath_0 ++ []
theorem dksX4_takesBreath_0 : cX4_takesBreath.data.toList.drop 0 = dktX4_takesBreath_0 := by decide +kernel
theorem dX4_takesBreath_0 : decode cX4_takesBreath 0 = .ok (.iload_n 0, 1) := dk_26 (dk_at dksX4_takesBreath_0 0 rfl rfl)
theorem dX4_takesBreath_1 : decode cX4_takesBreath 1 = .ok (.iconst 2, 1) := dk_5 (dk_at dksX4_takesBreath_0 1 rfl rfl)
theorem dX4_takesBreath_2 : decode cX4_takesBreath 2 = .ok (.if_icmp .ne 7, 3) := dk_160 0 7 (dk_at dksX4_takesBreath_0 2 rfl rfl)
theorem dX4_takesBreath_5 : decode cX4_takesBreath 5 = .ok (.iconst 1, 1) := dk_4 (dk_at dksX4_takesBreath_0 5 rfl rfl)
theorem dX4_takesBreath_6 : decode cX4_takesBreath 6 = .ok (.goto 13, 3) := dk_167 0 13 (dk_at dksX4_takesBreath_0 6 rfl rfl)
theorem dX4_takesBreath_9 : decode cX4_takesBreath 9 = .ok (.iload_n 0, 1) := dk_26 (dk_at dksX4_takesBreath_0 9 rfl rfl)
theorem dX4_takesBreath_10 : decode cX4_takesBreath 10 = .ok (.iconst 3, 1) := dk_6 (dk_at dksX4_takesBreath_0 10 rfl rfl)
theorem dX4_takesBreath_11 : decode cX4_takesBreath 11 = .ok (.if_icmp .ne 7, 3) := dk_160 0 7 (dk_at dksX4_takesBreath_0 11 rfl rfl)
theorem dX4_takesBreath_14 : decode cX4_takesBreath 14 = .ok (.iconst 3, 1) := dk_6 (dk_at dksX4_takesBreath_0 14 rfl rfl)
theorem dX4_takesBreath_15 : decode cX4_takesBreath 15 = .ok (.goto 4, 3) := dk_167 0 4 (dk_at dksX4_takesBreath_0 15 rfl rfl)
theorem dX4_takesBreath_18 : decode cX4_takesBreath 18 = .ok (.iconst 0, 1) := dk_3 (dk_at dksX4_takesBreath_0 18 rfl rfl)
theorem dX4_takesBreath_19 : decode cX4_takesBreath 19 = .ok (.ireturn, 1) := dk_172 (dk_at dksX4_takesBreath_0 19 rfl rfl)
abbrev cX4_isRim : ByteArray := prog_23_method_61_code
def yX4_isRim : MethodName := ⟨RX4, "isRim", "(I)Z"⟩
def dkwX4_isRim_2 : List UInt8 := [4, 96, 46, 42, 180, 1, 202, 4, 100, 160, 0, 7, 4, 167, 0, 4, 3, 172]
abbrev dktX4_isRim_2 : List UInt8 := dkwX4_isRim_2 ++ []
def dkwX4_isRim_1 : List UInt8 := [100, 159, 0, 35, 42, 180, 0, 121, 8, 27, 104, 4, 96, 46, 153, 0, 22, 42, 180, 0, 121, 8, 27, 104]
abbrev dktX4_isRim_1 : List UInt8 := dkwX4_isRim_1 ++ dktX4_isRim_2
def dkwX4_isRim_0 : List UInt8 := [42, 180, 0, 121, 8, 27, 104, 46, 153, 0, 52, 42, 180, 0, 121, 8, 27, 104, 46, 42, 180, 1, 199, 4]
abbrev dktX4_isRim_0 : List UInt8 := dkwX4_isRim_0 ++ dktX4_isRim_1
theorem dksX4_isRim_0 : cX4_isRim.data.toList.drop 0 = dktX4_isRim_0 := by decide +kernel
theorem dksX4_isRim_1 : cX4_isRim.data.toList.drop 24 = dktX4_isRim_1 := dk_seg dksX4_isRim_0 24 rfl rfl
theorem dksX4_isRim_2 : cX4_isRim.data.toList.drop 48 = dktX4_isRim_2 := dk_seg dksX4_isRim_1 24 rfl rfl
theorem dX4_isRim_0 : decode cX4_isRim 0 = .ok (.aload_n 0, 1) := dk_42 (dk_at dksX4_isRim_0 0 rfl rfl)
theorem dX4_isRim_1 : decode cX4_isRim 1 = .ok (.getfield 121, 3) := dk_180 0 121 (dk_at dksX4_isRim_0 1 rfl rfl)
theorem dX4_isRim_4 : decode cX4_isRim 4 = .ok (.iconst 5, 1) := dk_8 (dk_at dksX4_isRim_0 4 rfl rfl)
theorem dX4_isRim_5 : decode cX4_isRim 5 = .ok (.iload_n 1, 1) := dk_27 (dk_at dksX4_isRim_0 5 rfl rfl)
theorem dX4_isRim_6 : decode cX4_isRim 6 = .ok (.imul, 1) := dk_104 (dk_at dksX4_isRim_0 6 rfl rfl)
theorem dX4_isRim_7 : decode cX4_isRim 7 = .ok (.iaload, 1) := dk_46 (dk_at dksX4_isRim_0 7 rfl rfl)
theorem dX4_isRim_8 : decode cX4_isRim 8 = .ok (.ifCond .eq 52, 3) := dk_153 0 52 (dk_at dksX4_isRim_0 8 rfl rfl)
theorem dX4_isRim_11 : decode cX4_isRim 11 = .ok (.aload_n 0, 1) := dk_42 (dk_at dksX4_isRim_0 11 rfl rfl)
theorem dX4_isRim_12 : decode cX4_isRim 12 = .ok (.getfield 121, 3) := dk_180 0 121 (dk_at dksX4_isRim_0 12 rfl rfl)
theorem dX4_isRim_15 : decode cX4_isRim 15 = .ok (.iconst 5, 1) := dk_8 (dk_at dksX4_isRim_0 15 rfl rfl)
theorem dX4_isRim_16 : decode cX4_isRim 16 = .ok (.iload_n 1, 1) := dk_27 (dk_at dksX4_isRim_0 16 rfl rfl)
theorem dX4_isRim_17 : decode cX4_isRim 17 = .ok (.imul, 1) := dk_104 (dk_at dksX4_isRim_0 17 rfl rfl)
theorem dX4_isRim_18 : decode cX4_isRim 18 = .ok (.iaload, 1) := dk_46 (dk_at dksX4_isRim_0 18 rfl rfl)
theorem dX4_isRim_19 : decode cX4_isRim 19 = .ok (.aload_n 0, 1) := dk_42 (dk_at dksX4_isRim_0 19 rfl rfl)
theorem dX4_isRim_20 : decode cX4_isRim 20 = .ok (.getfield 455, 3) := dk_180 1 199 (dk_at dksX4_isRim_0 20 rfl rfl)
theorem dX4_isRim_23 : decode cX4_isRim 23 = .ok (.iconst 1, 1) := dk_4 (dk_at dksX4_isRim_0 23 rfl rfl)
theorem dX4_isRim_24 : decode cX4_isRim 24 = .ok (.isub, 1) := dk_100 (dk_at dksX4_isRim_1 0 rfl rfl)
theorem dX4_isRim_25 : decode cX4_isRim 25 = .ok (.if_icmp .eq 35, 3) := dk_159 0 35 (dk_at dksX4_isRim_1 1 rfl rfl)
theorem dX4_isRim_28 : decode cX4_isRim 28 = .ok (.aload_n 0, 1) := dk_42 (dk_at dksX4_isRim_1 4 rfl rfl)
theorem dX4_isRim_29 : decode cX4_isRim 29 = .ok (.getfield 121, 3) := dk_180 0 121 (dk_at dksX4_isRim_1 5 rfl rfl)
theorem dX4_isRim_32 : decode cX4_isRim 32 = .ok (.iconst 5, 1) := dk_8 (dk_at dksX4_isRim_1 8 rfl rfl)
theorem dX4_isRim_33 : decode cX4_isRim 33 = .ok (.iload_n 1, 1) := dk_27 (dk_at dksX4_isRim_1 9 rfl rfl)
theorem dX4_isRim_34 : decode cX4_isRim 34 = .ok (.imul, 1) := dk_104 (dk_at dksX4_isRim_1 10 rfl rfl)
theorem dX4_isRim_35 : decode cX4_isRim 35 = .ok (.iconst 1, 1) := dk_4 (dk_at dksX4_isRim_1 11 rfl rfl)
theorem dX4_isRim_36 : decode cX4_isRim 36 = .ok (.iadd, 1) := dk_96 (dk_at dksX4_isRim_1 12 rfl rfl)
theorem dX4_isRim_37 : decode cX4_isRim 37 = .ok (.iaload, 1) := dk_46 (dk_at dksX4_isRim_1 13 rfl rfl)
theorem dX4_isRim_38 : decode cX4_isRim 38 = .ok (.ifCond .eq 22, 3) := dk_153 0 22 (dk_at dksX4_isRim_1 14 rfl rfl)
theorem dX4_isRim_41 : decode cX4_isRim 41 = .ok (.aload_n 0, 1) := dk_42 (dk_at dksX4_isRim_1 17 rfl rfl)
theorem dX4_isRim_42 : decode cX4_isRim 42 = .ok (.getfield 121, 3) := dk_180 0 121 (dk_at dksX4_isRim_1 18 rfl rfl)
theorem dX4_isRim_45 : decode cX4_isRim 45 = .ok (.iconst 5, 1) := dk_8 (dk_at dksX4_isRim_1 21 rfl rfl)
theorem dX4_isRim_46 : decode cX4_isRim 46 = .ok (.iload_n 1, 1) := dk_27 (dk_at dksX4_isRim_1 22 rfl rfl)
theorem dX4_isRim_47 : decode cX4_isRim 47 = .ok (.imul, 1) := dk_104 (dk_at dksX4_isRim_1 23 rfl rfl)
theorem dX4_isRim_48 : decode cX4_isRim 48 = .ok (.iconst 1, 1) := dk_4 (dk_at dksX4_isRim_2 0 rfl rfl)
theorem dX4_isRim_49 : decode cX4_isRim 49 = .ok (.iadd, 1) := dk_96 (dk_at dksX4_isRim_2 1 rfl rfl)
theorem dX4_isRim_50 : decode cX4_isRim 50 = .ok (.iaload, 1) := dk_46 (dk_at dksX4_isRim_2 2 rfl rfl)
theorem dX4_isRim_51 : decode cX4_isRim 51 = .ok (.aload_n 0, 1) := dk_42 (dk_at dksX4_isRim_2 3 rfl rfl)
theorem dX4_isRim_52 : decode cX4_isRim 52 = .ok (.getfield 458, 3) := dk_180 1 202 (dk_at dksX4_isRim_2 4 rfl rfl)
theorem dX4_isRim_55 : decode cX4_isRim 55 = .ok (.iconst 1, 1) := dk_4 (dk_at dksX4_isRim_2 7 rfl rfl)
theorem dX4_isRim_56 : decode cX4_isRim 56 = .ok (.isub, 1) := dk_100 (dk_at dksX4_isRim_2 8 rfl rfl)
theorem dX4_isRim_57 : decode cX4_isRim 57 = .ok (.if_icmp .ne 7, 3) := dk_160 0 7 (dk_at dksX4_isRim_2 9 rfl rfl)
theorem dX4_isRim_60 : decode cX4_isRim 60 = .ok (.iconst 1, 1) := dk_4 (dk_at dksX4_isRim_2 12 rfl rfl)
theorem dX4_isRim_61 : decode cX4_isRim 61 = .ok (.goto 4, 3) := dk_167 0 4 (dk_at dksX4_isRim_2 13 rfl rfl)
theorem dX4_isRim_64 : decode cX4_isRim 64 = .ok (.iconst 0, 1) := dk_3 (dk_at dksX4_isRim_2 16 rfl rfl)
theorem dX4_isRim_65 : decode cX4_isRim 65 = .ok (.ireturn, 1) := dk_172 (dk_at dksX4_isRim_2 17 rfl rfl)
abbrev cX4_leans : ByteArray := prog_23_method_68_code
def yX4_leans : MethodName := ⟨RX4, "leans", "(II)Z"⟩
def dkwX4_leans_2 : List UInt8 := [3, 172]
abbrev dktX4_leans_2 : List UInt8 := dkwX4_leans_2 ++ []
def dkwX4_leans_1 : List UInt8 := [180, 0, 121, 8, 28, 104, 4, 96, 46, 42, 180, 2, 5, 96, 182, 2, 11, 155, 0, 7, 4, 167, 0, 4]
abbrev dktX4_leans_1 : List UInt8 := dkwX4_leans_1 ++ dktX4_leans_2
def dkwX4_leans_0 : List UInt8 := [42, 27, 28, 182, 2, 8, 153, 0, 42, 42, 42, 180, 0, 121, 8, 28, 104, 46, 42, 180, 2, 2, 96, 42]
abbrev dktX4_leans_0 : List UInt8 := dkwX4_leans_0 ++ dktX4_leans_1
theorem dksX4_leans_0 : cX4_leans.data.toList.drop 0 = dktX4_leans_0 := by decide +kernel
theorem dksX4_leans_1 : cX4_leans.data.toList.drop 24 = dktX4_leans_1 := dk_seg dksX4_leans_0 24 rfl rfl
theorem dksX4_leans_2 : cX4_leans.data.toList.drop 48 = dktX4_leans_2 := dk_seg dksX4_leans_1 24 rfl rfl
theorem dX4_leans_0 : decode cX4_leans 0 = .ok (.aload_n 0, 1) := dk_42 (dk_at dksX4_leans_0 0 rfl rfl)
theorem dX4_leans_1 : decode cX4_leans 1 = .ok (.iload_n 1, 1) := dk_27 (dk_at dksX4_leans_0 1 rfl rfl)
theorem dX4_leans_2 : decode cX4_leans 2 = .ok (.iload_n 2, 1) := dk_28 (dk_at dksX4_leans_0 2 rfl rfl)
theorem dX4_leans_3 : decode cX4_leans 3 = .ok (.invokevirtual 520, 3) := dk_182 2 8 (dk_at dksX4_leans_0 3 rfl rfl)
theorem dX4_leans_6 : decode cX4_leans 6 = .ok (.ifCond .eq 42, 3) := dk_153 0 42 (dk_at dksX4_leans_0 6 rfl rfl)
theorem dX4_leans_9 : decode cX4_leans 9 = .ok (.aload_n 0, 1) := dk_42 (dk_at dksX4_leans_0 9 rfl rfl)
theorem dX4_leans_10 : decode cX4_leans 10 = .ok (.aload_n 0, 1) := dk_42 (dk_at dksX4_leans_0 10 rfl rfl)
theorem dX4_leans_11 : decode cX4_leans 11 = .ok (.getfield 121, 3) := dk_180 0 121 (dk_at dksX4_leans_0 11 rfl rfl)
theorem dX4_leans_14 : decode cX4_leans 14 = .ok (.iconst 5, 1) := dk_8 (dk_at dksX4_leans_0 14 rfl rfl)
theorem dX4_leans_15 : decode cX4_leans 15 = .ok (.iload_n 2, 1) := dk_28 (dk_at dksX4_leans_0 15 rfl rfl)
theorem dX4_leans_16 : decode cX4_leans 16 = .ok (.imul, 1) := dk_104 (dk_at dksX4_leans_0 16 rfl rfl)
theorem dX4_leans_17 : decode cX4_leans 17 = .ok (.iaload, 1) := dk_46 (dk_at dksX4_leans_0 17 rfl rfl)
theorem dX4_leans_18 : decode cX4_leans 18 = .ok (.aload_n 0, 1) := dk_42 (dk_at dksX4_leans_0 18 rfl rfl)
theorem dX4_leans_19 : decode cX4_leans 19 = .ok (.getfield 514, 3) := dk_180 2 2 (dk_at dksX4_leans_0 19 rfl rfl)
theorem dX4_leans_22 : decode cX4_leans 22 = .ok (.iadd, 1) := dk_96 (dk_at dksX4_leans_0 22 rfl rfl)
theorem dX4_leans_23 : decode cX4_leans 23 = .ok (.aload_n 0, 1) := dk_42 (dk_at dksX4_leans_0 23 rfl rfl)
theorem dX4_leans_24 : decode cX4_leans 24 = .ok (.getfield 121, 3) := dk_180 0 121 (dk_at dksX4_leans_1 0 rfl rfl)
theorem dX4_leans_27 : decode cX4_leans 27 = .ok (.iconst 5, 1) := dk_8 (dk_at dksX4_leans_1 3 rfl rfl)
theorem dX4_leans_28 : decode cX4_leans 28 = .ok (.iload_n 2, 1) := dk_28 (dk_at dksX4_leans_1 4 rfl rfl)
theorem dX4_leans_29 : decode cX4_leans 29 = .ok (.imul, 1) := dk_104 (dk_at dksX4_leans_1 5 rfl rfl)
theorem dX4_leans_30 : decode cX4_leans 30 = .ok (.iconst 1, 1) := dk_4 (dk_at dksX4_leans_1 6 rfl rfl)
theorem dX4_leans_31 : decode cX4_leans 31 = .ok (.iadd, 1) := dk_96 (dk_at dksX4_leans_1 7 rfl rfl)
theorem dX4_leans_32 : decode cX4_leans 32 = .ok (.iaload, 1) := dk_46 (dk_at dksX4_leans_1 8 rfl rfl)
theorem dX4_leans_33 : decode cX4_leans 33 = .ok (.aload_n 0, 1) := dk_42 (dk_at dksX4_leans_1 9 rfl rfl)
theorem dX4_leans_34 : decode cX4_leans 34 = .ok (.getfield 517, 3) := dk_180 2 5 (dk_at dksX4_leans_1 10 rfl rfl)
theorem dX4_leans_37 : decode cX4_leans 37 = .ok (.iadd, 1) := dk_96 (dk_at dksX4_leans_1 13 rfl rfl)
theorem dX4_leans_38 : decode cX4_leans 38 = .ok (.invokevirtual 523, 3) := dk_182 2 11 (dk_at dksX4_leans_1 14 rfl rfl)
theorem dX4_leans_41 : decode cX4_leans 41 = .ok (.ifCond .lt 7, 3) := dk_155 0 7 (dk_at dksX4_leans_1 17 rfl rfl)
theorem dX4_leans_44 : decode cX4_leans 44 = .ok (.iconst 1, 1) := dk_4 (dk_at dksX4_leans_1 20 rfl rfl)
theorem dX4_leans_45 : decode cX4_leans 45 = .ok (.goto 4, 3) := dk_167 0 4 (dk_at dksX4_leans_1 21 rfl rfl)
theorem dX4_leans_48 : decode cX4_leans 48 = .ok (.iconst 0, 1) := dk_3 (dk_at dksX4_leans_2 0 rfl rfl)
theorem dX4_leans_49 : decode cX4_leans 49 = .ok (.ireturn, 1) := dk_172 (dk_at dksX4_leans_2 1 rfl rfl)
abbrev cX4_layWay : ByteArray := prog_23_method_67_code
def yX4_layWay : MethodName := ⟨RX4, "layWay", "(II)Z"⟩
def dkwX4_layWay_4 : List UInt8 := [167, 0, 4, 4, 181, 2, 5, 29, 154, 0, 8, 21, 4, 153, 0, 7, 4, 167, 0, 4, 3, 172]
abbrev dktX4_layWay_4 : List UInt8 := dkwX4_layWay_4 ++ []
def dkwX4_layWay_3 : List UInt8 := [2, 167, 0, 4, 4, 181, 2, 2, 42, 21, 5, 153, 0, 7, 3, 167, 0, 13, 21, 4, 156, 0, 7, 2]
abbrev dktX4_layWay_3 : List UInt8 := dkwX4_layWay_3 ++ dktX4_layWay_4
def dkwX4_layWay_2 : List UInt8 := [167, 0, 4, 3, 54, 5, 42, 21, 5, 153, 0, 7, 29, 154, 0, 7, 3, 167, 0, 12, 29, 156, 0, 7]
abbrev dktX4_layWay_2 : List UInt8 := dkwX4_layWay_2 ++ dktX4_layWay_3
def dkwX4_layWay_1 : List UInt8 := [96, 46, 42, 180, 0, 100, 27, 46, 100, 54, 4, 29, 184, 1, 242, 21, 4, 184, 1, 242, 161, 0, 7, 4]
abbrev dktX4_layWay_1 : List UInt8 := dkwX4_layWay_1 ++ dktX4_layWay_2
def dkwX4_layWay_0 : List UInt8 := [42, 180, 0, 121, 8, 28, 104, 46, 42, 180, 0, 97, 27, 46, 100, 62, 42, 180, 0, 121, 8, 28, 104, 4]
abbrev dktX4_layWay_0 : List UInt8 := dkwX4_layWay_0 ++ dktX4_layWay_1
theorem dksX4_layWay_0 : cX4_layWay.data.toList.drop 0 = dktX4_layWay_0 := by decide +kernel
theorem dksX4_layWay_1 : cX4_layWay.data.toList.drop 24 = dktX4_layWay_1 := dk_seg dksX4_layWay_0 24 rfl rfl
theorem dksX4_layWay_2 : cX4_layWay.data.toList.drop 48 = dktX4_layWay_2 := dk_seg dksX4_layWay_1 24 rfl rfl
theorem dksX4_layWay_3 : cX4_layWay.data.toList.drop 72 = dktX4_layWay_3 := dk_seg dksX4_layWay_2 24 rfl rfl
theorem dksX4_layWay_4 : cX4_layWay.data.toList.drop 96 = dktX4_layWay_4 := dk_seg dksX4_layWay_3 24 rfl rfl
theorem dX4_layWay_0 : decode cX4_layWay 0 = .ok (.aload_n 0, 1) := dk_42 (dk_at dksX4_layWay_0 0 rfl rfl)
theorem dX4_layWay_1 : decode cX4_layWay 1 = .ok (.getfield 121, 3) := dk_180 0 121 (dk_at dksX4_layWay_0 1 rfl rfl)
theorem dX4_layWay_4 : decode cX4_layWay 4 = .ok (.iconst 5, 1) := dk_8 (dk_at dksX4_layWay_0 4 rfl rfl)
theorem dX4_layWay_5 : decode cX4_layWay 5 = .ok (.iload_n 2, 1) := dk_28 (dk_at dksX4_layWay_0 5 rfl rfl)
theorem dX4_layWay_6 : decode cX4_layWay 6 = .ok (.imul, 1) := dk_104 (dk_at dksX4_layWay_0 6 rfl rfl)
theorem dX4_layWay_7 : decode cX4_layWay 7 = .ok (.iaload, 1) := dk_46 (dk_at dksX4_layWay_0 7 rfl rfl)
theorem dX4_layWay_8 : decode cX4_layWay 8 = .ok (.aload_n 0, 1) := dk_42 (dk_at dksX4_layWay_0 8 rfl rfl)
theorem dX4_layWay_9 : decode cX4_layWay 9 = .ok (.getfield 97, 3) := dk_180 0 97 (dk_at dksX4_layWay_0 9 rfl rfl)
theorem dX4_layWay_12 : decode cX4_layWay 12 = .ok (.iload_n 1, 1) := dk_27 (dk_at dksX4_layWay_0 12 rfl rfl)
theorem dX4_layWay_13 : decode cX4_layWay 13 = .ok (.iaload, 1) := dk_46 (dk_at dksX4_layWay_0 13 rfl rfl)
theorem dX4_layWay_14 : decode cX4_layWay 14 = .ok (.isub, 1) := dk_100 (dk_at dksX4_layWay_0 14 rfl rfl)
theorem dX4_layWay_15 : decode cX4_layWay 15 = .ok (.istore_n 3, 1) := dk_62 (dk_at dksX4_layWay_0 15 rfl rfl)
theorem dX4_layWay_16 : decode cX4_layWay 16 = .ok (.aload_n 0, 1) := dk_42 (dk_at dksX4_layWay_0 16 rfl rfl)
theorem dX4_layWay_17 : decode cX4_layWay 17 = .ok (.getfield 121, 3) := dk_180 0 121 (dk_at dksX4_layWay_0 17 rfl rfl)
theorem dX4_layWay_20 : decode cX4_layWay 20 = .ok (.iconst 5, 1) := dk_8 (dk_at dksX4_layWay_0 20 rfl rfl)
theorem dX4_layWay_21 : decode cX4_layWay 21 = .ok (.iload_n 2, 1) := dk_28 (dk_at dksX4_layWay_0 21 rfl rfl)
theorem dX4_layWay_22 : decode cX4_layWay 22 = .ok (.imul, 1) := dk_104 (dk_at dksX4_layWay_0 22 rfl rfl)
theorem dX4_layWay_23 : decode cX4_layWay 23 = .ok (.iconst 1, 1) := dk_4 (dk_at dksX4_layWay_0 23 rfl rfl)
theorem dX4_layWay_24 : decode cX4_layWay 24 = .ok (.iadd, 1) := dk_96 (dk_at dksX4_layWay_1 0 rfl rfl)
theorem dX4_layWay_25 : decode cX4_layWay 25 = .ok (.iaload, 1) := dk_46 (dk_at dksX4_layWay_1 1 rfl rfl)
theorem dX4_layWay_26 : decode cX4_layWay 26 = .ok (.aload_n 0, 1) := dk_42 (dk_at dksX4_layWay_1 2 rfl rfl)
theorem dX4_layWay_27 : decode cX4_layWay 27 = .ok (.getfield 100, 3) := dk_180 0 100 (dk_at dksX4_layWay_1 3 rfl rfl)
theorem dX4_layWay_30 : decode cX4_layWay 30 = .ok (.iload_n 1, 1) := dk_27 (dk_at dksX4_layWay_1 6 rfl rfl)
theorem dX4_layWay_31 : decode cX4_layWay 31 = .ok (.iaload, 1) := dk_46 (dk_at dksX4_layWay_1 7 rfl rfl)
theorem dX4_layWay_32 : decode cX4_layWay 32 = .ok (.isub, 1) := dk_100 (dk_at dksX4_layWay_1 8 rfl rfl)
theorem dX4_layWay_33 : decode cX4_layWay 33 = .ok (.istore 4, 2) := dk_54 4 (dk_at dksX4_layWay_1 9 rfl rfl)
theorem dX4_layWay_35 : decode cX4_layWay 35 = .ok (.iload_n 3, 1) := dk_29 (dk_at dksX4_layWay_1 11 rfl rfl)
theorem dX4_layWay_36 : decode cX4_layWay 36 = .ok (.invokestatic 498, 3) := dk_184 1 242 (dk_at dksX4_layWay_1 12 rfl rfl)
theorem dX4_layWay_39 : decode cX4_layWay 39 = .ok (.iload 4, 2) := dk_21 4 (dk_at dksX4_layWay_1 15 rfl rfl)
theorem dX4_layWay_41 : decode cX4_layWay 41 = .ok (.invokestatic 498, 3) := dk_184 1 242 (dk_at dksX4_layWay_1 17 rfl rfl)
theorem dX4_layWay_44 : decode cX4_layWay 44 = .ok (.if_icmp .lt 7, 3) := dk_161 0 7 (dk_at dksX4_layWay_1 20 rfl rfl)
theorem dX4_layWay_47 : decode cX4_layWay 47 = .ok (.iconst 1, 1) := dk_4 (dk_at dksX4_layWay_1 23 rfl rfl)
theorem dX4_layWay_48 : decode cX4_layWay 48 = .ok (.goto 4, 3) := dk_167 0 4 (dk_at dksX4_layWay_2 0 rfl rfl)
theorem dX4_layWay_51 : decode cX4_layWay 51 = .ok (.iconst 0, 1) := dk_3 (dk_at dksX4_layWay_2 3 rfl rfl)
theorem dX4_layWay_52 : decode cX4_layWay 52 = .ok (.istore 5, 2) := dk_54 5 (dk_at dksX4_layWay_2 4 rfl rfl)
theorem dX4_layWay_54 : decode cX4_layWay 54 = .ok (.aload_n 0, 1) := dk_42 (dk_at dksX4_layWay_2 6 rfl rfl)
theorem dX4_layWay_55 : decode cX4_layWay 55 = .ok (.iload 5, 2) := dk_21 5 (dk_at dksX4_layWay_2 7 rfl rfl)
theorem dX4_layWay_57 : decode cX4_layWay 57 = .ok (.ifCond .eq 7, 3) := dk_153 0 7 (dk_at dksX4_layWay_2 9 rfl rfl)
theorem dX4_layWay_60 : decode cX4_layWay 60 = .ok (.iload_n 3, 1) := dk_29 (dk_at dksX4_layWay_2 12 rfl rfl)
theorem dX4_layWay_61 : decode cX4_layWay 61 = .ok (.ifCond .ne 7, 3) := dk_154 0 7 (dk_at dksX4_layWay_2 13 rfl rfl)
theorem dX4_layWay_64 : decode cX4_layWay 64 = .ok (.iconst 0, 1) := dk_3 (dk_at dksX4_layWay_2 16 rfl rfl)
theorem dX4_layWay_65 : decode cX4_layWay 65 = .ok (.goto 12, 3) := dk_167 0 12 (dk_at dksX4_layWay_2 17 rfl rfl)
theorem dX4_layWay_68 : decode cX4_layWay 68 = .ok (.iload_n 3, 1) := dk_29 (dk_at dksX4_layWay_2 20 rfl rfl)
theorem dX4_layWay_69 : decode cX4_layWay 69 = .ok (.ifCond .ge 7, 3) := dk_156 0 7 (dk_at dksX4_layWay_2 21 rfl rfl)
theorem dX4_layWay_72 : decode cX4_layWay 72 = .ok (.iconst (-1), 1) := dk_2 (dk_at dksX4_layWay_3 0 rfl rfl)
theorem dX4_layWay_73 : decode cX4_layWay 73 = .ok (.goto 4, 3) := dk_167 0 4 (dk_at dksX4_layWay_3 1 rfl rfl)
theorem dX4_layWay_76 : decode cX4_layWay 76 = .ok (.iconst 1, 1) := dk_4 (dk_at dksX4_layWay_3 4 rfl rfl)
theorem dX4_layWay_77 : decode cX4_layWay 77 = .ok (.putfield 514, 3) := dk_181 2 2 (dk_at dksX4_layWay_3 5 rfl rfl)
theorem dX4_layWay_80 : decode cX4_layWay 80 = .ok (.aload_n 0, 1) := dk_42 (dk_at dksX4_layWay_3 8 rfl rfl)
theorem dX4_layWay_81 : decode cX4_layWay 81 = .ok (.iload 5, 2) := dk_21 5 (dk_at dksX4_layWay_3 9 rfl rfl)
theorem dX4_layWay_83 : decode cX4_layWay 83 = .ok (.ifCond .eq 7, 3) := dk_153 0 7 (dk_at dksX4_layWay_3 11 rfl rfl)
theorem dX4_layWay_86 : decode cX4_layWay 86 = .ok (.iconst 0, 1) := dk_3 (dk_at dksX4_layWay_3 14 rfl rfl)
theorem dX4_layWay_87 : decode cX4_layWay 87 = .ok (.goto 13, 3) := dk_167 0 13 (dk_at dksX4_layWay_3 15 rfl rfl)
theorem dX4_layWay_90 : decode cX4_layWay 90 = .ok (.iload 4, 2) := dk_21 4 (dk_at dksX4_layWay_3 18 rfl rfl)
theorem dX4_layWay_92 : decode cX4_layWay 92 = .ok (.ifCond .ge 7, 3) := dk_156 0 7 (dk_at dksX4_layWay_3 20 rfl rfl)
theorem dX4_layWay_95 : decode cX4_layWay 95 = .ok (.iconst (-1), 1) := dk_2 (dk_at dksX4_layWay_3 23 rfl rfl)
theorem dX4_layWay_96 : decode cX4_layWay 96 = .ok (.goto 4, 3) := dk_167 0 4 (dk_at dksX4_layWay_4 0 rfl rfl)
theorem dX4_layWay_99 : decode cX4_layWay 99 = .ok (.iconst 1, 1) := dk_4 (dk_at dksX4_layWay_4 3 rfl rfl)
theorem dX4_layWay_100 : decode cX4_layWay 100 = .ok (.putfield 517, 3) := dk_181 2 5 (dk_at dksX4_layWay_4 4 rfl rfl)
theorem dX4_layWay_103 : decode cX4_layWay 103 = .ok (.iload_n 3, 1) := dk_29 (dk_at dksX4_layWay_4 7 rfl rfl)
theorem dX4_layWay_104 : decode cX4_layWay 104 = .ok (.ifCond .ne 8, 3) := dk_154 0 8 (dk_at dksX4_layWay_4 8 rfl rfl)
theorem dX4_layWay_107 : decode cX4_layWay 107 = .ok (.iload 4, 2) := dk_21 4 (dk_at dksX4_layWay_4 11 rfl rfl)
theorem dX4_layWay_109 : decode cX4_layWay 109 = .ok (.ifCond .eq 7, 3) := dk_153 0 7 (dk_at dksX4_layWay_4 13 rfl rfl)
theorem dX4_layWay_112 : decode cX4_layWay 112 = .ok (.iconst 1, 1) := dk_4 (dk_at dksX4_layWay_4 16 rfl rfl)
theorem dX4_layWay_113 : decode cX4_layWay 113 = .ok (.goto 4, 3) := dk_167 0 4 (dk_at dksX4_layWay_4 17 rfl rfl)
theorem dX4_layWay_116 : decode cX4_layWay 116 = .ok (.iconst 0, 1) := dk_3 (dk_at dksX4_layWay_4 20 rfl rfl)
theorem dX4_layWay_117 : decode cX4_layWay 117 = .ok (.ireturn, 1) := dk_172 (dk_at dksX4_layWay_4 21 rfl rfl)
abbrev cX4_afloat : ByteArray := prog_23_method_62_code
def yX4_afloat : MethodName := ⟨RX4, "afloat", "(II)I"⟩
def dkwX4_afloat_2 : List UInt8 := [160, 0, 6, 21, 4, 62, 132, 4, 1, 167, 255, 204, 29, 172]
abbrev dktX4_afloat_2 : List UInt8 := dkwX4_afloat_2 ++ []
def dkwX4_afloat_1 : List UInt8 := [180, 0, 121, 8, 21, 4, 104, 46, 27, 160, 0, 21, 42, 180, 0, 121, 8, 21, 4, 104, 4, 96, 46, 28]
abbrev dktX4_afloat_1 : List UInt8 := dkwX4_afloat_1 ++ dktX4_afloat_2
def dkwX4_afloat_0 : List UInt8 := [2, 62, 3, 54, 4, 21, 4, 42, 180, 1, 211, 162, 0, 49, 42, 21, 4, 182, 1, 245, 153, 0, 34, 42]
abbrev dktX4_afloat_0 : List UInt8 := dkwX4_afloat_0 ++ dktX4_afloat_1
theorem dksX4_afloat_0 : cX4_afloat.data.toList.drop 0 = dktX4_afloat_0 := by decide +kernel
theorem dksX4_afloat_1 : cX4_afloat.data.toList.drop 24 = dktX4_afloat_1 := dk_seg dksX4_afloat_0 24 rfl rfl
theorem dksX4_afloat_2 : cX4_afloat.data.toList.drop 48 = dktX4_afloat_2 := dk_seg dksX4_afloat_1 24 rfl rfl
theorem dX4_afloat_0 : decode cX4_afloat 0 = .ok (.iconst (-1), 1) := dk_2 (dk_at dksX4_afloat_0 0 rfl rfl)
theorem dX4_afloat_1 : decode cX4_afloat 1 = .ok (.istore_n 3, 1) := dk_62 (dk_at dksX4_afloat_0 1 rfl rfl)
theorem dX4_afloat_2 : decode cX4_afloat 2 = .ok (.iconst 0, 1) := dk_3 (dk_at dksX4_afloat_0 2 rfl rfl)
theorem dX4_afloat_3 : decode cX4_afloat 3 = .ok (.istore 4, 2) := dk_54 4 (dk_at dksX4_afloat_0 3 rfl rfl)
theorem dX4_afloat_5 : decode cX4_afloat 5 = .ok (.iload 4, 2) := dk_21 4 (dk_at dksX4_afloat_0 5 rfl rfl)
theorem dX4_afloat_7 : decode cX4_afloat 7 = .ok (.aload_n 0, 1) := dk_42 (dk_at dksX4_afloat_0 7 rfl rfl)
theorem dX4_afloat_8 : decode cX4_afloat 8 = .ok (.getfield 467, 3) := dk_180 1 211 (dk_at dksX4_afloat_0 8 rfl rfl)
theorem dX4_afloat_11 : decode cX4_afloat 11 = .ok (.if_icmp .ge 49, 3) := dk_162 0 49 (dk_at dksX4_afloat_0 11 rfl rfl)
theorem dX4_afloat_14 : decode cX4_afloat 14 = .ok (.aload_n 0, 1) := dk_42 (dk_at dksX4_afloat_0 14 rfl rfl)
theorem dX4_afloat_15 : decode cX4_afloat 15 = .ok (.iload 4, 2) := dk_21 4 (dk_at dksX4_afloat_0 15 rfl rfl)
theorem dX4_afloat_17 : decode cX4_afloat 17 = .ok (.invokevirtual 501, 3) := dk_182 1 245 (dk_at dksX4_afloat_0 17 rfl rfl)
theorem dX4_afloat_20 : decode cX4_afloat 20 = .ok (.ifCond .eq 34, 3) := dk_153 0 34 (dk_at dksX4_afloat_0 20 rfl rfl)
theorem dX4_afloat_23 : decode cX4_afloat 23 = .ok (.aload_n 0, 1) := dk_42 (dk_at dksX4_afloat_0 23 rfl rfl)
theorem dX4_afloat_24 : decode cX4_afloat 24 = .ok (.getfield 121, 3) := dk_180 0 121 (dk_at dksX4_afloat_1 0 rfl rfl)
theorem dX4_afloat_27 : decode cX4_afloat 27 = .ok (.iconst 5, 1) := dk_8 (dk_at dksX4_afloat_1 3 rfl rfl)
theorem dX4_afloat_28 : decode cX4_afloat 28 = .ok (.iload 4, 2) := dk_21 4 (dk_at dksX4_afloat_1 4 rfl rfl)
theorem dX4_afloat_30 : decode cX4_afloat 30 = .ok (.imul, 1) := dk_104 (dk_at dksX4_afloat_1 6 rfl rfl)
theorem dX4_afloat_31 : decode cX4_afloat 31 = .ok (.iaload, 1) := dk_46 (dk_at dksX4_afloat_1 7 rfl rfl)
theorem dX4_afloat_32 : decode cX4_afloat 32 = .ok (.iload_n 1, 1) := dk_27 (dk_at dksX4_afloat_1 8 rfl rfl)
theorem dX4_afloat_33 : decode cX4_afloat 33 = .ok (.if_icmp .ne 21, 3) := dk_160 0 21 (dk_at dksX4_afloat_1 9 rfl rfl)
theorem dX4_afloat_36 : decode cX4_afloat 36 = .ok (.aload_n 0, 1) := dk_42 (dk_at dksX4_afloat_1 12 rfl rfl)
theorem dX4_afloat_37 : decode cX4_afloat 37 = .ok (.getfield 121, 3) := dk_180 0 121 (dk_at dksX4_afloat_1 13 rfl rfl)
theorem dX4_afloat_40 : decode cX4_afloat 40 = .ok (.iconst 5, 1) := dk_8 (dk_at dksX4_afloat_1 16 rfl rfl)
theorem dX4_afloat_41 : decode cX4_afloat 41 = .ok (.iload 4, 2) := dk_21 4 (dk_at dksX4_afloat_1 17 rfl rfl)
theorem dX4_afloat_43 : decode cX4_afloat 43 = .ok (.imul, 1) := dk_104 (dk_at dksX4_afloat_1 19 rfl rfl)
theorem dX4_afloat_44 : decode cX4_afloat 44 = .ok (.iconst 1, 1) := dk_4 (dk_at dksX4_afloat_1 20 rfl rfl)
theorem dX4_afloat_45 : decode cX4_afloat 45 = .ok (.iadd, 1) := dk_96 (dk_at dksX4_afloat_1 21 rfl rfl)
theorem dX4_afloat_46 : decode cX4_afloat 46 = .ok (.iaload, 1) := dk_46 (dk_at dksX4_afloat_1 22 rfl rfl)
theorem dX4_afloat_47 : decode cX4_afloat 47 = .ok (.iload_n 2, 1) := dk_28 (dk_at dksX4_afloat_1 23 rfl rfl)
theorem dX4_afloat_48 : decode cX4_afloat 48 = .ok (.if_icmp .ne 6, 3) := dk_160 0 6 (dk_at dksX4_afloat_2 0 rfl rfl)
theorem dX4_afloat_51 : decode cX4_afloat 51 = .ok (.iload 4, 2) := dk_21 4 (dk_at dksX4_afloat_2 3 rfl rfl)
theorem dX4_afloat_53 : decode cX4_afloat 53 = .ok (.istore_n 3, 1) := dk_62 (dk_at dksX4_afloat_2 5 rfl rfl)
theorem dX4_afloat_54 : decode cX4_afloat 54 = .ok (.iinc 4 1, 3) := dk_132 4 1 (dk_at dksX4_afloat_2 6 rfl rfl)
theorem dX4_afloat_57 : decode cX4_afloat 57 = .ok (.goto (-52), 3) := dk_167 255 204 (dk_at dksX4_afloat_2 9 rfl rfl)
theorem dX4_afloat_60 : decode cX4_afloat 60 = .ok (.iload_n 3, 1) := dk_29 (dk_at dksX4_afloat_2 12 rfl rfl)
theorem dX4_afloat_61 : decode cX4_afloat 61 = .ok (.ireturn, 1) := dk_172 (dk_at dksX4_afloat_2 13 rfl rfl)
abbrev cX4_oddsOf : ByteArray := prog_23_method_66_code
def yX4_oddsOf : MethodName := ⟨RX4, "oddsOf", "(III)I"⟩
def dkwX4_oddsOf_2 : List UInt8 := [167, 0, 5, 21, 4, 172]
abbrev dktX4_oddsOf_2 : List UInt8 := dkwX4_oddsOf_2 ++ []
def dkwX4_oddsOf_1 : List UInt8 := [16, 50, 54, 4, 21, 4, 156, 0, 7, 3, 167, 0, 17, 21, 4, 16, 100, 164, 0, 8, 16, 100]
abbrev dktX4_oddsOf_1 : List UInt8 := dkwX4_oddsOf_1 ++ dktX4_oddsOf_2
def dkwX4_oddsOf_0 : List UInt8 := [42, 180, 1, 205, 29, 122, 4, 126, 4, 160, 0, 15, 42, 29, 27, 28, 3, 3, 182, 1, 255, 167, 0, 5]
abbrev dktX4_oddsOf_0 : List UInt8 := dkwX4_oddsOf_0 ++ dktX4_oddsOf_1
theorem dksX4_oddsOf_0 : cX4_oddsOf.data.toList.drop 0 = dktX4_oddsOf_0 := by decide +kernel
theorem dksX4_oddsOf_1 : cX4_oddsOf.data.toList.drop 24 = dktX4_oddsOf_1 := dk_seg dksX4_oddsOf_0 24 rfl rfl
theorem dksX4_oddsOf_2 : cX4_oddsOf.data.toList.drop 46 = dktX4_oddsOf_2 := dk_seg dksX4_oddsOf_1 22 rfl rfl
theorem dX4_oddsOf_0 : decode cX4_oddsOf 0 = .ok (.aload_n 0, 1) := dk_42 (dk_at dksX4_oddsOf_0 0 rfl rfl)
theorem dX4_oddsOf_1 : decode cX4_oddsOf 1 = .ok (.getfield 461, 3) := dk_180 1 205 (dk_at dksX4_oddsOf_0 1 rfl rfl)
theorem dX4_oddsOf_4 : decode cX4_oddsOf 4 = .ok (.iload_n 3, 1) := dk_29 (dk_at dksX4_oddsOf_0 4 rfl rfl)
theorem dX4_oddsOf_5 : decode cX4_oddsOf 5 = .ok (.ishr, 1) := dk_122 (dk_at dksX4_oddsOf_0 5 rfl rfl)
theorem dX4_oddsOf_6 : decode cX4_oddsOf 6 = .ok (.iconst 1, 1) := dk_4 (dk_at dksX4_oddsOf_0 6 rfl rfl)
theorem dX4_oddsOf_7 : decode cX4_oddsOf 7 = .ok (.iand, 1) := dk_126 (dk_at dksX4_oddsOf_0 7 rfl rfl)
theorem dX4_oddsOf_8 : decode cX4_oddsOf 8 = .ok (.iconst 1, 1) := dk_4 (dk_at dksX4_oddsOf_0 8 rfl rfl)
theorem dX4_oddsOf_9 : decode cX4_oddsOf 9 = .ok (.if_icmp .ne 15, 3) := dk_160 0 15 (dk_at dksX4_oddsOf_0 9 rfl rfl)
theorem dX4_oddsOf_12 : decode cX4_oddsOf 12 = .ok (.aload_n 0, 1) := dk_42 (dk_at dksX4_oddsOf_0 12 rfl rfl)
theorem dX4_oddsOf_13 : decode cX4_oddsOf 13 = .ok (.iload_n 3, 1) := dk_29 (dk_at dksX4_oddsOf_0 13 rfl rfl)
theorem dX4_oddsOf_14 : decode cX4_oddsOf 14 = .ok (.iload_n 1, 1) := dk_27 (dk_at dksX4_oddsOf_0 14 rfl rfl)
theorem dX4_oddsOf_15 : decode cX4_oddsOf 15 = .ok (.iload_n 2, 1) := dk_28 (dk_at dksX4_oddsOf_0 15 rfl rfl)
theorem dX4_oddsOf_16 : decode cX4_oddsOf 16 = .ok (.iconst 0, 1) := dk_3 (dk_at dksX4_oddsOf_0 16 rfl rfl)
theorem dX4_oddsOf_17 : decode cX4_oddsOf 17 = .ok (.iconst 0, 1) := dk_3 (dk_at dksX4_oddsOf_0 17 rfl rfl)
theorem dX4_oddsOf_18 : decode cX4_oddsOf 18 = .ok (.invokevirtual 511, 3) := dk_182 1 255 (dk_at dksX4_oddsOf_0 18 rfl rfl)
theorem dX4_oddsOf_21 : decode cX4_oddsOf 21 = .ok (.goto 5, 3) := dk_167 0 5 (dk_at dksX4_oddsOf_0 21 rfl rfl)
theorem dX4_oddsOf_24 : decode cX4_oddsOf 24 = .ok (.bipush 50, 2) := dk_16 50 (dk_at dksX4_oddsOf_1 0 rfl rfl)
theorem dX4_oddsOf_26 : decode cX4_oddsOf 26 = .ok (.istore 4, 2) := dk_54 4 (dk_at dksX4_oddsOf_1 2 rfl rfl)
theorem dX4_oddsOf_28 : decode cX4_oddsOf 28 = .ok (.iload 4, 2) := dk_21 4 (dk_at dksX4_oddsOf_1 4 rfl rfl)
theorem dX4_oddsOf_30 : decode cX4_oddsOf 30 = .ok (.ifCond .ge 7, 3) := dk_156 0 7 (dk_at dksX4_oddsOf_1 6 rfl rfl)
theorem dX4_oddsOf_33 : decode cX4_oddsOf 33 = .ok (.iconst 0, 1) := dk_3 (dk_at dksX4_oddsOf_1 9 rfl rfl)
theorem dX4_oddsOf_34 : decode cX4_oddsOf 34 = .ok (.goto 17, 3) := dk_167 0 17 (dk_at dksX4_oddsOf_1 10 rfl rfl)
theorem dX4_oddsOf_37 : decode cX4_oddsOf 37 = .ok (.iload 4, 2) := dk_21 4 (dk_at dksX4_oddsOf_1 13 rfl rfl)
theorem dX4_oddsOf_39 : decode cX4_oddsOf 39 = .ok (.bipush 100, 2) := dk_16 100 (dk_at dksX4_oddsOf_1 15 rfl rfl)
theorem dX4_oddsOf_41 : decode cX4_oddsOf 41 = .ok (.if_icmp .le 8, 3) := dk_164 0 8 (dk_at dksX4_oddsOf_1 17 rfl rfl)
theorem dX4_oddsOf_44 : decode cX4_oddsOf 44 = .ok (.bipush 100, 2) := dk_16 100 (dk_at dksX4_oddsOf_1 20 rfl rfl)
theorem dX4_oddsOf_46 : decode cX4_oddsOf 46 = .ok (.goto 5, 3) := dk_167 0 5 (dk_at dksX4_oddsOf_2 0 rfl rfl)
theorem dX4_oddsOf_49 : decode cX4_oddsOf 49 = .ok (.iload 4, 2) := dk_21 4 (dk_at dksX4_oddsOf_2 3 rfl rfl)
theorem dX4_oddsOf_51 : decode cX4_oddsOf 51 = .ok (.ireturn, 1) := dk_172 (dk_at dksX4_oddsOf_2 5 rfl rfl)
abbrev cX4_worked : ByteArray := prog_23_method_35_code
def yX4_worked : MethodName := ⟨RX4, "worked", "(IIIII)I"⟩
def dkwX4_worked_8 : List UInt8 := [3, 46, 172]
abbrev dktX4_worked_8 : List UInt8 := dkwX4_worked_8 ++ []
def dkwX4_worked_7 : List UInt8 := [4, 100, 46, 42, 180, 0, 38, 21, 6, 46, 184, 1, 112, 79, 132, 7, 1, 167, 255, 84, 42, 180, 0, 38]
abbrev dktX4_worked_7 : List UInt8 := dkwX4_worked_7 ++ dktX4_worked_8
def dkwX4_worked_6 : List UInt8 := [132, 6, 255, 42, 180, 0, 38, 21, 6, 4, 100, 42, 180, 0, 29, 21, 7, 46, 42, 180, 0, 38, 21, 6]
abbrev dktX4_worked_6 : List UInt8 := dkwX4_worked_6 ++ dktX4_worked_7
def dkwX4_worked_5 : List UInt8 := [180, 0, 38, 21, 6, 4, 100, 46, 154, 0, 7, 4, 167, 0, 4, 3, 184, 1, 98, 79, 167, 0, 41]
abbrev dktX4_worked_5 : List UInt8 := dkwX4_worked_5 ++ dktX4_worked_6
def dkwX4_worked_4 : List UInt8 := [167, 0, 84, 42, 180, 0, 26, 21, 7, 46, 5, 160, 0, 35, 42, 180, 0, 38, 21, 6, 4, 100, 42]
abbrev dktX4_worked_4 : List UInt8 := dkwX4_worked_4 ++ dktX4_worked_5
def dkwX4_worked_3 : List UInt8 := [167, 0, 20, 42, 42, 180, 0, 29, 21, 7, 46, 28, 29, 21, 4, 21, 5, 182, 1, 108, 79, 132, 6, 1]
abbrev dktX4_worked_3 : List UInt8 := dkwX4_worked_3 ++ dktX4_worked_4
def dkwX4_worked_2 : List UInt8 := [42, 180, 0, 38, 21, 6, 42, 180, 0, 26, 21, 7, 46, 154, 0, 13, 42, 180, 0, 29, 21, 7, 46]
abbrev dktX4_worked_2 : List UInt8 := dkwX4_worked_2 ++ dktX4_worked_3
def dkwX4_worked_1 : List UInt8 := [162, 0, 161, 42, 180, 0, 26, 21, 7, 46, 153, 0, 14, 42, 180, 0, 26, 21, 7, 46, 4, 160, 0, 53]
abbrev dktX4_worked_1 : List UInt8 := dkwX4_worked_1 ++ dktX4_worked_2
def dkwX4_worked_0 : List UInt8 := [3, 54, 6, 17, 1, 64, 27, 104, 54, 7, 21, 7, 17, 1, 64, 27, 104, 42, 180, 0, 32, 27, 46, 96]
abbrev dktX4_worked_0 : List UInt8 := dkwX4_worked_0 ++ dktX4_worked_1
theorem dksX4_worked_0 : cX4_worked.data.toList.drop 0 = dktX4_worked_0 := by decide +kernel
theorem dksX4_worked_1 : cX4_worked.data.toList.drop 24 = dktX4_worked_1 := dk_seg dksX4_worked_0 24 rfl rfl
theorem dksX4_worked_2 : cX4_worked.data.toList.drop 48 = dktX4_worked_2 := dk_seg dksX4_worked_1 24 rfl rfl
theorem dksX4_worked_3 : cX4_worked.data.toList.drop 71 = dktX4_worked_3 := dk_seg dksX4_worked_2 23 rfl rfl
theorem dksX4_worked_4 : cX4_worked.data.toList.drop 95 = dktX4_worked_4 := dk_seg dksX4_worked_3 24 rfl rfl
theorem dksX4_worked_5 : cX4_worked.data.toList.drop 118 = dktX4_worked_5 := dk_seg dksX4_worked_4 23 rfl rfl
theorem dksX4_worked_6 : cX4_worked.data.toList.drop 141 = dktX4_worked_6 := dk_seg dksX4_worked_5 23 rfl rfl
theorem dksX4_worked_7 : cX4_worked.data.toList.drop 165 = dktX4_worked_7 := dk_seg dksX4_worked_6 24 rfl rfl
theorem dksX4_worked_8 : cX4_worked.data.toList.drop 189 = dktX4_worked_8 := dk_seg dksX4_worked_7 24 rfl rfl
theorem dX4_worked_0 : decode cX4_worked 0 = .ok (.iconst 0, 1) := dk_3 (dk_at dksX4_worked_0 0 rfl rfl)
theorem dX4_worked_1 : decode cX4_worked 1 = .ok (.istore 6, 2) := dk_54 6 (dk_at dksX4_worked_0 1 rfl rfl)
theorem dX4_worked_3 : decode cX4_worked 3 = .ok (.sipush 320, 3) := dk_17 1 64 (dk_at dksX4_worked_0 3 rfl rfl)
theorem dX4_worked_6 : decode cX4_worked 6 = .ok (.iload_n 1, 1) := dk_27 (dk_at dksX4_worked_0 6 rfl rfl)
theorem dX4_worked_7 : decode cX4_worked 7 = .ok (.imul, 1) := dk_104 (dk_at dksX4_worked_0 7 rfl rfl)
theorem dX4_worked_8 : decode cX4_worked 8 = .ok (.istore 7, 2) := dk_54 7 (dk_at dksX4_worked_0 8 rfl rfl)
theorem dX4_worked_10 : decode cX4_worked 10 = .ok (.iload 7, 2) := dk_21 7 (dk_at dksX4_worked_0 10 rfl rfl)
theorem dX4_worked_12 : decode cX4_worked 12 = .ok (.sipush 320, 3) := dk_17 1 64 (dk_at dksX4_worked_0 12 rfl rfl)
theorem dX4_worked_15 : decode cX4_worked 15 = .ok (.iload_n 1, 1) := dk_27 (dk_at dksX4_worked_0 15 rfl rfl)
theorem dX4_worked_16 : decode cX4_worked 16 = .ok (.imul, 1) := dk_104 (dk_at dksX4_worked_0 16 rfl rfl)
theorem dX4_worked_17 : decode cX4_worked 17 = .ok (.aload_n 0, 1) := dk_42 (dk_at dksX4_worked_0 17 rfl rfl)
theorem dX4_worked_18 : decode cX4_worked 18 = .ok (.getfield 32, 3) := dk_180 0 32 (dk_at dksX4_worked_0 18 rfl rfl)
theorem dX4_worked_21 : decode cX4_worked 21 = .ok (.iload_n 1, 1) := dk_27 (dk_at dksX4_worked_0 21 rfl rfl)
theorem dX4_worked_22 : decode cX4_worked 22 = .ok (.iaload, 1) := dk_46 (dk_at dksX4_worked_0 22 rfl rfl)
theorem dX4_worked_23 : decode cX4_worked 23 = .ok (.iadd, 1) := dk_96 (dk_at dksX4_worked_0 23 rfl rfl)
theorem dX4_worked_24 : decode cX4_worked 24 = .ok (.if_icmp .ge 161, 3) := dk_162 0 161 (dk_at dksX4_worked_1 0 rfl rfl)
theorem dX4_worked_27 : decode cX4_worked 27 = .ok (.aload_n 0, 1) := dk_42 (dk_at dksX4_worked_1 3 rfl rfl)
theorem dX4_worked_28 : decode cX4_worked 28 = .ok (.getfield 26, 3) := dk_180 0 26 (dk_at dksX4_worked_1 4 rfl rfl)
theorem dX4_worked_31 : decode cX4_worked 31 = .ok (.iload 7, 2) := dk_21 7 (dk_at dksX4_worked_1 7 rfl rfl)
theorem dX4_worked_33 : decode cX4_worked 33 = .ok (.iaload, 1) := dk_46 (dk_at dksX4_worked_1 9 rfl rfl)
theorem dX4_worked_34 : decode cX4_worked 34 = .ok (.ifCond .eq 14, 3) := dk_153 0 14 (dk_at dksX4_worked_1 10 rfl rfl)
theorem dX4_worked_37 : decode cX4_worked 37 = .ok (.aload_n 0, 1) := dk_42 (dk_at dksX4_worked_1 13 rfl rfl)
theorem dX4_worked_38 : decode cX4_worked 38 = .ok (.getfield 26, 3) := dk_180 0 26 (dk_at dksX4_worked_1 14 rfl rfl)
theorem dX4_worked_41 : decode cX4_worked 41 = .ok (.iload 7, 2) := dk_21 7 (dk_at dksX4_worked_1 17 rfl rfl)
theorem dX4_worked_43 : decode cX4_worked 43 = .ok (.iaload, 1) := dk_46 (dk_at dksX4_worked_1 19 rfl rfl)
theorem dX4_worked_44 : decode cX4_worked 44 = .ok (.iconst 1, 1) := dk_4 (dk_at dksX4_worked_1 20 rfl rfl)
theorem dX4_worked_45 : decode cX4_worked 45 = .ok (.if_icmp .ne 53, 3) := dk_160 0 53 (dk_at dksX4_worked_1 21 rfl rfl)
theorem dX4_worked_48 : decode cX4_worked 48 = .ok (.aload_n 0, 1) := dk_42 (dk_at dksX4_worked_2 0 rfl rfl)
theorem dX4_worked_49 : decode cX4_worked 49 = .ok (.getfield 38, 3) := dk_180 0 38 (dk_at dksX4_worked_2 1 rfl rfl)
theorem dX4_worked_52 : decode cX4_worked 52 = .ok (.iload 6, 2) := dk_21 6 (dk_at dksX4_worked_2 4 rfl rfl)
theorem dX4_worked_54 : decode cX4_worked 54 = .ok (.aload_n 0, 1) := dk_42 (dk_at dksX4_worked_2 6 rfl rfl)
theorem dX4_worked_55 : decode cX4_worked 55 = .ok (.getfield 26, 3) := dk_180 0 26 (dk_at dksX4_worked_2 7 rfl rfl)
theorem dX4_worked_58 : decode cX4_worked 58 = .ok (.iload 7, 2) := dk_21 7 (dk_at dksX4_worked_2 10 rfl rfl)
theorem dX4_worked_60 : decode cX4_worked 60 = .ok (.iaload, 1) := dk_46 (dk_at dksX4_worked_2 12 rfl rfl)
theorem dX4_worked_61 : decode cX4_worked 61 = .ok (.ifCond .ne 13, 3) := dk_154 0 13 (dk_at dksX4_worked_2 13 rfl rfl)
theorem dX4_worked_64 : decode cX4_worked 64 = .ok (.aload_n 0, 1) := dk_42 (dk_at dksX4_worked_2 16 rfl rfl)
theorem dX4_worked_65 : decode cX4_worked 65 = .ok (.getfield 29, 3) := dk_180 0 29 (dk_at dksX4_worked_2 17 rfl rfl)
theorem dX4_worked_68 : decode cX4_worked 68 = .ok (.iload 7, 2) := dk_21 7 (dk_at dksX4_worked_2 20 rfl rfl)
theorem dX4_worked_70 : decode cX4_worked 70 = .ok (.iaload, 1) := dk_46 (dk_at dksX4_worked_2 22 rfl rfl)
theorem dX4_worked_71 : decode cX4_worked 71 = .ok (.goto 20, 3) := dk_167 0 20 (dk_at dksX4_worked_3 0 rfl rfl)
theorem dX4_worked_74 : decode cX4_worked 74 = .ok (.aload_n 0, 1) := dk_42 (dk_at dksX4_worked_3 3 rfl rfl)
theorem dX4_worked_75 : decode cX4_worked 75 = .ok (.aload_n 0, 1) := dk_42 (dk_at dksX4_worked_3 4 rfl rfl)
theorem dX4_worked_76 : decode cX4_worked 76 = .ok (.getfield 29, 3) := dk_180 0 29 (dk_at dksX4_worked_3 5 rfl rfl)
theorem dX4_worked_79 : decode cX4_worked 79 = .ok (.iload 7, 2) := dk_21 7 (dk_at dksX4_worked_3 8 rfl rfl)
theorem dX4_worked_81 : decode cX4_worked 81 = .ok (.iaload, 1) := dk_46 (dk_at dksX4_worked_3 10 rfl rfl)
theorem dX4_worked_82 : decode cX4_worked 82 = .ok (.iload_n 2, 1) := dk_28 (dk_at dksX4_worked_3 11 rfl rfl)
theorem dX4_worked_83 : decode cX4_worked 83 = .ok (.iload_n 3, 1) := dk_29 (dk_at dksX4_worked_3 12 rfl rfl)
theorem dX4_worked_84 : decode cX4_worked 84 = .ok (.iload 4, 2) := dk_21 4 (dk_at dksX4_worked_3 13 rfl rfl)
theorem dX4_worked_86 : decode cX4_worked 86 = .ok (.iload 5, 2) := dk_21 5 (dk_at dksX4_worked_3 15 rfl rfl)
theorem dX4_worked_88 : decode cX4_worked 88 = .ok (.invokevirtual 364, 3) := dk_182 1 108 (dk_at dksX4_worked_3 17 rfl rfl)
theorem dX4_worked_91 : decode cX4_worked 91 = .ok (.iastore, 1) := dk_79 (dk_at dksX4_worked_3 20 rfl rfl)
theorem dX4_worked_92 : decode cX4_worked 92 = .ok (.iinc 6 1, 3) := dk_132 6 1 (dk_at dksX4_worked_3 21 rfl rfl)
theorem dX4_worked_95 : decode cX4_worked 95 = .ok (.goto 84, 3) := dk_167 0 84 (dk_at dksX4_worked_4 0 rfl rfl)
theorem dX4_worked_98 : decode cX4_worked 98 = .ok (.aload_n 0, 1) := dk_42 (dk_at dksX4_worked_4 3 rfl rfl)
theorem dX4_worked_99 : decode cX4_worked 99 = .ok (.getfield 26, 3) := dk_180 0 26 (dk_at dksX4_worked_4 4 rfl rfl)
theorem dX4_worked_102 : decode cX4_worked 102 = .ok (.iload 7, 2) := dk_21 7 (dk_at dksX4_worked_4 7 rfl rfl)
theorem dX4_worked_104 : decode cX4_worked 104 = .ok (.iaload, 1) := dk_46 (dk_at dksX4_worked_4 9 rfl rfl)
theorem dX4_worked_105 : decode cX4_worked 105 = .ok (.iconst 2, 1) := dk_5 (dk_at dksX4_worked_4 10 rfl rfl)
theorem dX4_worked_106 : decode cX4_worked 106 = .ok (.if_icmp .ne 35, 3) := dk_160 0 35 (dk_at dksX4_worked_4 11 rfl rfl)
theorem dX4_worked_109 : decode cX4_worked 109 = .ok (.aload_n 0, 1) := dk_42 (dk_at dksX4_worked_4 14 rfl rfl)
theorem dX4_worked_110 : decode cX4_worked 110 = .ok (.getfield 38, 3) := dk_180 0 38 (dk_at dksX4_worked_4 15 rfl rfl)
theorem dX4_worked_113 : decode cX4_worked 113 = .ok (.iload 6, 2) := dk_21 6 (dk_at dksX4_worked_4 18 rfl rfl)
theorem dX4_worked_115 : decode cX4_worked 115 = .ok (.iconst 1, 1) := dk_4 (dk_at dksX4_worked_4 20 rfl rfl)
theorem dX4_worked_116 : decode cX4_worked 116 = .ok (.isub, 1) := dk_100 (dk_at dksX4_worked_4 21 rfl rfl)
theorem dX4_worked_117 : decode cX4_worked 117 = .ok (.aload_n 0, 1) := dk_42 (dk_at dksX4_worked_4 22 rfl rfl)
theorem dX4_worked_118 : decode cX4_worked 118 = .ok (.getfield 38, 3) := dk_180 0 38 (dk_at dksX4_worked_5 0 rfl rfl)
theorem dX4_worked_121 : decode cX4_worked 121 = .ok (.iload 6, 2) := dk_21 6 (dk_at dksX4_worked_5 3 rfl rfl)
theorem dX4_worked_123 : decode cX4_worked 123 = .ok (.iconst 1, 1) := dk_4 (dk_at dksX4_worked_5 5 rfl rfl)
theorem dX4_worked_124 : decode cX4_worked 124 = .ok (.isub, 1) := dk_100 (dk_at dksX4_worked_5 6 rfl rfl)
theorem dX4_worked_125 : decode cX4_worked 125 = .ok (.iaload, 1) := dk_46 (dk_at dksX4_worked_5 7 rfl rfl)
theorem dX4_worked_126 : decode cX4_worked 126 = .ok (.ifCond .ne 7, 3) := dk_154 0 7 (dk_at dksX4_worked_5 8 rfl rfl)
theorem dX4_worked_129 : decode cX4_worked 129 = .ok (.iconst 1, 1) := dk_4 (dk_at dksX4_worked_5 11 rfl rfl)
theorem dX4_worked_130 : decode cX4_worked 130 = .ok (.goto 4, 3) := dk_167 0 4 (dk_at dksX4_worked_5 12 rfl rfl)
theorem dX4_worked_133 : decode cX4_worked 133 = .ok (.iconst 0, 1) := dk_3 (dk_at dksX4_worked_5 15 rfl rfl)
theorem dX4_worked_134 : decode cX4_worked 134 = .ok (.invokestatic 354, 3) := dk_184 1 98 (dk_at dksX4_worked_5 16 rfl rfl)
theorem dX4_worked_137 : decode cX4_worked 137 = .ok (.iastore, 1) := dk_79 (dk_at dksX4_worked_5 19 rfl rfl)
theorem dX4_worked_138 : decode cX4_worked 138 = .ok (.goto 41, 3) := dk_167 0 41 (dk_at dksX4_worked_5 20 rfl rfl)
theorem dX4_worked_141 : decode cX4_worked 141 = .ok (.iinc 6 (-1), 3) := dk_132 6 255 (dk_at dksX4_worked_6 0 rfl rfl)
theorem dX4_worked_144 : decode cX4_worked 144 = .ok (.aload_n 0, 1) := dk_42 (dk_at dksX4_worked_6 3 rfl rfl)
theorem dX4_worked_145 : decode cX4_worked 145 = .ok (.getfield 38, 3) := dk_180 0 38 (dk_at dksX4_worked_6 4 rfl rfl)
theorem dX4_worked_148 : decode cX4_worked 148 = .ok (.iload 6, 2) := dk_21 6 (dk_at dksX4_worked_6 7 rfl rfl)
theorem dX4_worked_150 : decode cX4_worked 150 = .ok (.iconst 1, 1) := dk_4 (dk_at dksX4_worked_6 9 rfl rfl)
theorem dX4_worked_151 : decode cX4_worked 151 = .ok (.isub, 1) := dk_100 (dk_at dksX4_worked_6 10 rfl rfl)
theorem dX4_worked_152 : decode cX4_worked 152 = .ok (.aload_n 0, 1) := dk_42 (dk_at dksX4_worked_6 11 rfl rfl)
theorem dX4_worked_153 : decode cX4_worked 153 = .ok (.getfield 29, 3) := dk_180 0 29 (dk_at dksX4_worked_6 12 rfl rfl)
theorem dX4_worked_156 : decode cX4_worked 156 = .ok (.iload 7, 2) := dk_21 7 (dk_at dksX4_worked_6 15 rfl rfl)
theorem dX4_worked_158 : decode cX4_worked 158 = .ok (.iaload, 1) := dk_46 (dk_at dksX4_worked_6 17 rfl rfl)
theorem dX4_worked_159 : decode cX4_worked 159 = .ok (.aload_n 0, 1) := dk_42 (dk_at dksX4_worked_6 18 rfl rfl)
theorem dX4_worked_160 : decode cX4_worked 160 = .ok (.getfield 38, 3) := dk_180 0 38 (dk_at dksX4_worked_6 19 rfl rfl)
theorem dX4_worked_163 : decode cX4_worked 163 = .ok (.iload 6, 2) := dk_21 6 (dk_at dksX4_worked_6 22 rfl rfl)
theorem dX4_worked_165 : decode cX4_worked 165 = .ok (.iconst 1, 1) := dk_4 (dk_at dksX4_worked_7 0 rfl rfl)
theorem dX4_worked_166 : decode cX4_worked 166 = .ok (.isub, 1) := dk_100 (dk_at dksX4_worked_7 1 rfl rfl)
theorem dX4_worked_167 : decode cX4_worked 167 = .ok (.iaload, 1) := dk_46 (dk_at dksX4_worked_7 2 rfl rfl)
theorem dX4_worked_168 : decode cX4_worked 168 = .ok (.aload_n 0, 1) := dk_42 (dk_at dksX4_worked_7 3 rfl rfl)
theorem dX4_worked_169 : decode cX4_worked 169 = .ok (.getfield 38, 3) := dk_180 0 38 (dk_at dksX4_worked_7 4 rfl rfl)
theorem dX4_worked_172 : decode cX4_worked 172 = .ok (.iload 6, 2) := dk_21 6 (dk_at dksX4_worked_7 7 rfl rfl)
theorem dX4_worked_174 : decode cX4_worked 174 = .ok (.iaload, 1) := dk_46 (dk_at dksX4_worked_7 9 rfl rfl)
theorem dX4_worked_175 : decode cX4_worked 175 = .ok (.invokestatic 368, 3) := dk_184 1 112 (dk_at dksX4_worked_7 10 rfl rfl)
theorem dX4_worked_178 : decode cX4_worked 178 = .ok (.iastore, 1) := dk_79 (dk_at dksX4_worked_7 13 rfl rfl)
theorem dX4_worked_179 : decode cX4_worked 179 = .ok (.iinc 7 1, 3) := dk_132 7 1 (dk_at dksX4_worked_7 14 rfl rfl)
theorem dX4_worked_182 : decode cX4_worked 182 = .ok (.goto (-172), 3) := dk_167 255 84 (dk_at dksX4_worked_7 17 rfl rfl)
theorem dX4_worked_185 : decode cX4_worked 185 = .ok (.aload_n 0, 1) := dk_42 (dk_at dksX4_worked_7 20 rfl rfl)
theorem dX4_worked_186 : decode cX4_worked 186 = .ok (.getfield 38, 3) := dk_180 0 38 (dk_at dksX4_worked_7 21 rfl rfl)
theorem dX4_worked_189 : decode cX4_worked 189 = .ok (.iconst 0, 1) := dk_3 (dk_at dksX4_worked_8 0 rfl rfl)
theorem dX4_worked_190 : decode cX4_worked 190 = .ok (.iaload, 1) := dk_46 (dk_at dksX4_worked_8 1 rfl rfl)
theorem dX4_worked_191 : decode cX4_worked 191 = .ok (.ireturn, 1) := dk_172 (dk_at dksX4_worked_8 2 rfl rfl)
abbrev cX4_askOf : ByteArray := prog_23_method_34_code
def yX4_askOf : MethodName := ⟨RX4, "askOf", "(IIIII)I"⟩
def dkwX4_askOf_5 : List UInt8 := [46, 172, 21, 4, 172, 21, 5, 172]
abbrev dktX4_askOf_5 : List UInt8 := dkwX4_askOf_5 ++ []
def dkwX4_askOf_4 : List UInt8 := [8, 29, 104, 6, 96, 46, 172, 42, 180, 0, 109, 28, 46, 172, 42, 180, 0, 121, 16, 50, 6, 28, 104, 96]
abbrev dktX4_askOf_4 : List UInt8 := dkwX4_askOf_4 ++ dktX4_askOf_5
def dkwX4_askOf_3 : List UInt8 := [184, 1, 98, 172, 42, 29, 182, 1, 102, 184, 1, 98, 172, 42, 28, 29, 182, 1, 105, 172, 42, 180, 0, 121]
abbrev dktX4_askOf_3 : List UInt8 := dkwX4_askOf_3 ++ dktX4_askOf_4
def dkwX4_askOf_2 : List UInt8 := [42, 180, 0, 121, 8, 29, 104, 7, 96, 46, 172, 42, 180, 0, 85, 29, 46, 172, 42, 180, 0, 115, 29, 51]
abbrev dktX4_askOf_2 : List UInt8 := dkwX4_askOf_2 ++ dktX4_askOf_3
def dkwX4_askOf_1 : List UInt8 := [170, 0, 0, 0, 0, 0, 128, 0, 0, 0, 0, 0, 0, 0, 8, 0, 0, 0, 51, 0, 0, 0, 62, 0, 0, 0, 69, 0, 0, 0, 79, 0, 0, 0, 88, 0, 0, 0, 95, 0, 0, 0, 106, 0, 0, 0, 113, 0, 0, 0, 125]
abbrev dktX4_askOf_1 : List UInt8 := dkwX4_askOf_1 ++ dktX4_askOf_2
def dkwX4_askOf_0 : List UInt8 := [27]
abbrev dktX4_askOf_0 : List UInt8 := dkwX4_askOf_0 ++ dktX4_askOf_1
theorem dksX4_askOf_0 : cX4_askOf.data.toList.drop 0 = dktX4_askOf_0 := by decide +kernel
theorem dksX4_askOf_1 : cX4_askOf.data.toList.drop 1 = dktX4_askOf_1 := dk_seg dksX4_askOf_0 1 rfl rfl
theorem dksX4_askOf_2 : cX4_askOf.data.toList.drop 52 = dktX4_askOf_2 := dk_seg dksX4_askOf_1 51 rfl rfl
theorem dksX4_askOf_3 : cX4_askOf.data.toList.drop 76 = dktX4_askOf_3 := dk_seg dksX4_askOf_2 24 rfl rfl
theorem dksX4_askOf_4 : cX4_askOf.data.toList.drop 100 = dktX4_askOf_4 := dk_seg dksX4_askOf_3 24 rfl rfl
theorem dksX4_askOf_5 : cX4_askOf.data.toList.drop 124 = dktX4_askOf_5 := dk_seg dksX4_askOf_4 24 rfl rfl
theorem dX4_askOf_0 : decode cX4_askOf 0 = .ok (.iload_n 1, 1) := dk_27 (dk_at dksX4_askOf_0 0 rfl rfl)
theorem dX4_askOf_1 : decode cX4_askOf 1 = .ok (.tableswitch 128 0 8 #[51, 62, 69, 79, 88, 95, 106, 113, 125], 51) := by decide +kernel
theorem dX4_askOf_52 : decode cX4_askOf 52 = .ok (.aload_n 0, 1) := dk_42 (dk_at dksX4_askOf_2 0 rfl rfl)
theorem dX4_askOf_53 : decode cX4_askOf 53 = .ok (.getfield 121, 3) := dk_180 0 121 (dk_at dksX4_askOf_2 1 rfl rfl)
theorem dX4_askOf_56 : decode cX4_askOf 56 = .ok (.iconst 5, 1) := dk_8 (dk_at dksX4_askOf_2 4 rfl rfl)
theorem dX4_askOf_57 : decode cX4_askOf 57 = .ok (.iload_n 3, 1) := dk_29 (dk_at dksX4_askOf_2 5 rfl rfl)
theorem dX4_askOf_58 : decode cX4_askOf 58 = .ok (.imul, 1) := dk_104 (dk_at dksX4_askOf_2 6 rfl rfl)
theorem dX4_askOf_59 : decode cX4_askOf 59 = .ok (.iconst 4, 1) := dk_7 (dk_at dksX4_askOf_2 7 rfl rfl)
theorem dX4_askOf_60 : decode cX4_askOf 60 = .ok (.iadd, 1) := dk_96 (dk_at dksX4_askOf_2 8 rfl rfl)
theorem dX4_askOf_61 : decode cX4_askOf 61 = .ok (.iaload, 1) := dk_46 (dk_at dksX4_askOf_2 9 rfl rfl)
theorem dX4_askOf_62 : decode cX4_askOf 62 = .ok (.ireturn, 1) := dk_172 (dk_at dksX4_askOf_2 10 rfl rfl)
theorem dX4_askOf_63 : decode cX4_askOf 63 = .ok (.aload_n 0, 1) := dk_42 (dk_at dksX4_askOf_2 11 rfl rfl)
theorem dX4_askOf_64 : decode cX4_askOf 64 = .ok (.getfield 85, 3) := dk_180 0 85 (dk_at dksX4_askOf_2 12 rfl rfl)
theorem dX4_askOf_67 : decode cX4_askOf 67 = .ok (.iload_n 3, 1) := dk_29 (dk_at dksX4_askOf_2 15 rfl rfl)
theorem dX4_askOf_68 : decode cX4_askOf 68 = .ok (.iaload, 1) := dk_46 (dk_at dksX4_askOf_2 16 rfl rfl)
theorem dX4_askOf_69 : decode cX4_askOf 69 = .ok (.ireturn, 1) := dk_172 (dk_at dksX4_askOf_2 17 rfl rfl)
theorem dX4_askOf_70 : decode cX4_askOf 70 = .ok (.aload_n 0, 1) := dk_42 (dk_at dksX4_askOf_2 18 rfl rfl)
theorem dX4_askOf_71 : decode cX4_askOf 71 = .ok (.getfield 115, 3) := dk_180 0 115 (dk_at dksX4_askOf_2 19 rfl rfl)
theorem dX4_askOf_74 : decode cX4_askOf 74 = .ok (.iload_n 3, 1) := dk_29 (dk_at dksX4_askOf_2 22 rfl rfl)
theorem dX4_askOf_75 : decode cX4_askOf 75 = .ok (.baload, 1) := dk_51 (dk_at dksX4_askOf_2 23 rfl rfl)
theorem dX4_askOf_76 : decode cX4_askOf 76 = .ok (.invokestatic 354, 3) := dk_184 1 98 (dk_at dksX4_askOf_3 0 rfl rfl)
theorem dX4_askOf_79 : decode cX4_askOf 79 = .ok (.ireturn, 1) := dk_172 (dk_at dksX4_askOf_3 3 rfl rfl)
theorem dX4_askOf_80 : decode cX4_askOf 80 = .ok (.aload_n 0, 1) := dk_42 (dk_at dksX4_askOf_3 4 rfl rfl)
theorem dX4_askOf_81 : decode cX4_askOf 81 = .ok (.iload_n 3, 1) := dk_29 (dk_at dksX4_askOf_3 5 rfl rfl)
theorem dX4_askOf_82 : decode cX4_askOf 82 = .ok (.invokevirtual 358, 3) := dk_182 1 102 (dk_at dksX4_askOf_3 6 rfl rfl)
theorem dX4_askOf_85 : decode cX4_askOf 85 = .ok (.invokestatic 354, 3) := dk_184 1 98 (dk_at dksX4_askOf_3 9 rfl rfl)
theorem dX4_askOf_88 : decode cX4_askOf 88 = .ok (.ireturn, 1) := dk_172 (dk_at dksX4_askOf_3 12 rfl rfl)
theorem dX4_askOf_89 : decode cX4_askOf 89 = .ok (.aload_n 0, 1) := dk_42 (dk_at dksX4_askOf_3 13 rfl rfl)
theorem dX4_askOf_90 : decode cX4_askOf 90 = .ok (.iload_n 2, 1) := dk_28 (dk_at dksX4_askOf_3 14 rfl rfl)
theorem dX4_askOf_91 : decode cX4_askOf 91 = .ok (.iload_n 3, 1) := dk_29 (dk_at dksX4_askOf_3 15 rfl rfl)
theorem dX4_askOf_92 : decode cX4_askOf 92 = .ok (.invokevirtual 361, 3) := dk_182 1 105 (dk_at dksX4_askOf_3 16 rfl rfl)
theorem dX4_askOf_95 : decode cX4_askOf 95 = .ok (.ireturn, 1) := dk_172 (dk_at dksX4_askOf_3 19 rfl rfl)
theorem dX4_askOf_96 : decode cX4_askOf 96 = .ok (.aload_n 0, 1) := dk_42 (dk_at dksX4_askOf_3 20 rfl rfl)
theorem dX4_askOf_97 : decode cX4_askOf 97 = .ok (.getfield 121, 3) := dk_180 0 121 (dk_at dksX4_askOf_3 21 rfl rfl)
theorem dX4_askOf_100 : decode cX4_askOf 100 = .ok (.iconst 5, 1) := dk_8 (dk_at dksX4_askOf_4 0 rfl rfl)
theorem dX4_askOf_101 : decode cX4_askOf 101 = .ok (.iload_n 3, 1) := dk_29 (dk_at dksX4_askOf_4 1 rfl rfl)
theorem dX4_askOf_102 : decode cX4_askOf 102 = .ok (.imul, 1) := dk_104 (dk_at dksX4_askOf_4 2 rfl rfl)
theorem dX4_askOf_103 : decode cX4_askOf 103 = .ok (.iconst 3, 1) := dk_6 (dk_at dksX4_askOf_4 3 rfl rfl)
theorem dX4_askOf_104 : decode cX4_askOf 104 = .ok (.iadd, 1) := dk_96 (dk_at dksX4_askOf_4 4 rfl rfl)
theorem dX4_askOf_105 : decode cX4_askOf 105 = .ok (.iaload, 1) := dk_46 (dk_at dksX4_askOf_4 5 rfl rfl)
theorem dX4_askOf_106 : decode cX4_askOf 106 = .ok (.ireturn, 1) := dk_172 (dk_at dksX4_askOf_4 6 rfl rfl)
theorem dX4_askOf_107 : decode cX4_askOf 107 = .ok (.aload_n 0, 1) := dk_42 (dk_at dksX4_askOf_4 7 rfl rfl)
theorem dX4_askOf_108 : decode cX4_askOf 108 = .ok (.getfield 109, 3) := dk_180 0 109 (dk_at dksX4_askOf_4 8 rfl rfl)
theorem dX4_askOf_111 : decode cX4_askOf 111 = .ok (.iload_n 2, 1) := dk_28 (dk_at dksX4_askOf_4 11 rfl rfl)
theorem dX4_askOf_112 : decode cX4_askOf 112 = .ok (.iaload, 1) := dk_46 (dk_at dksX4_askOf_4 12 rfl rfl)
theorem dX4_askOf_113 : decode cX4_askOf 113 = .ok (.ireturn, 1) := dk_172 (dk_at dksX4_askOf_4 13 rfl rfl)
theorem dX4_askOf_114 : decode cX4_askOf 114 = .ok (.aload_n 0, 1) := dk_42 (dk_at dksX4_askOf_4 14 rfl rfl)
theorem dX4_askOf_115 : decode cX4_askOf 115 = .ok (.getfield 121, 3) := dk_180 0 121 (dk_at dksX4_askOf_4 15 rfl rfl)
theorem dX4_askOf_118 : decode cX4_askOf 118 = .ok (.bipush 50, 2) := dk_16 50 (dk_at dksX4_askOf_4 18 rfl rfl)
theorem dX4_askOf_120 : decode cX4_askOf 120 = .ok (.iconst 3, 1) := dk_6 (dk_at dksX4_askOf_4 20 rfl rfl)
theorem dX4_askOf_121 : decode cX4_askOf 121 = .ok (.iload_n 2, 1) := dk_28 (dk_at dksX4_askOf_4 21 rfl rfl)
theorem dX4_askOf_122 : decode cX4_askOf 122 = .ok (.imul, 1) := dk_104 (dk_at dksX4_askOf_4 22 rfl rfl)
theorem dX4_askOf_123 : decode cX4_askOf 123 = .ok (.iadd, 1) := dk_96 (dk_at dksX4_askOf_4 23 rfl rfl)
theorem dX4_askOf_124 : decode cX4_askOf 124 = .ok (.iaload, 1) := dk_46 (dk_at dksX4_askOf_5 0 rfl rfl)
theorem dX4_askOf_125 : decode cX4_askOf 125 = .ok (.ireturn, 1) := dk_172 (dk_at dksX4_askOf_5 1 rfl rfl)
theorem dX4_askOf_126 : decode cX4_askOf 126 = .ok (.iload 4, 2) := dk_21 4 (dk_at dksX4_askOf_5 2 rfl rfl)
theorem dX4_askOf_128 : decode cX4_askOf 128 = .ok (.ireturn, 1) := dk_172 (dk_at dksX4_askOf_5 4 rfl rfl)
theorem dX4_askOf_129 : decode cX4_askOf 129 = .ok (.iload 5, 2) := dk_21 5 (dk_at dksX4_askOf_5 5 rfl rfl)
theorem dX4_askOf_131 : decode cX4_askOf 131 = .ok (.ireturn, 1) := dk_172 (dk_at dksX4_askOf_5 7 rfl rfl)
abbrev cX4_truth : ByteArray := prog_23_method_32_code
def yX4_truth : MethodName := ⟨RX4, "truth", "(Z)I"⟩
def dkwX4_truth_0 : List UInt8 := [26, 153, 0, 7, 4, 167, 0, 4, 3, 172]
abbrev dktX4_truth_0 : List UInt8 := dkwX4_truth_0 ++ []
theorem dksX4_truth_0 : cX4_truth.data.toList.drop 0 = dktX4_truth_0 := by decide +kernel
theorem dX4_truth_0 : decode cX4_truth 0 = .ok (.iload_n 0, 1) := dk_26 (dk_at dksX4_truth_0 0 rfl rfl)
theorem dX4_truth_1 : decode cX4_truth 1 = .ok (.ifCond .eq 7, 3) := dk_153 0 7 (dk_at dksX4_truth_0 1 rfl rfl)
theorem dX4_truth_4 : decode cX4_truth 4 = .ok (.iconst 1, 1) := dk_4 (dk_at dksX4_truth_0 4 rfl rfl)
theorem dX4_truth_5 : decode cX4_truth 5 = .ok (.goto 4, 3) := dk_167 0 4 (dk_at dksX4_truth_0 5 rfl rfl)
theorem dX4_truth_8 : decode cX4_truth 8 = .ok (.iconst 0, 1) := dk_3 (dk_at dksX4_truth_0 8 rfl rfl)
theorem dX4_truth_9 : decode cX4_truth 9 = .ok (.ireturn, 1) := dk_172 (dk_at dksX4_truth_0 9 rfl rfl)
abbrev cX4_done : ByteArray := prog_23_method_33_code
def yX4_done : MethodName := ⟨RX4, "done", "(III)I"⟩
def dkwX4_done_6 : List UInt8 := [172, 27, 154, 0, 7, 28, 153, 0, 7, 4, 167, 0, 4, 3, 184, 1, 98, 172]
abbrev dktX4_done_6 : List UInt8 := dkwX4_done_6 ++ []
def dkwX4_done_5 : List UInt8 := [167, 0, 4, 3, 184, 1, 98, 172, 27, 153, 0, 11, 28, 153, 0, 7, 4, 167, 0, 4, 3, 184, 1, 98]
abbrev dktX4_done_5 : List UInt8 := dkwX4_done_5 ++ dktX4_done_6
def dkwX4_done_4 : List UInt8 := [184, 1, 98, 172, 27, 28, 164, 0, 7, 4, 167, 0, 4, 3, 184, 1, 98, 172, 27, 28, 160, 0, 7, 4]
abbrev dktX4_done_4 : List UInt8 := dkwX4_done_4 ++ dktX4_done_5
def dkwX4_done_3 : List UInt8 := [28, 154, 0, 7, 3, 167, 0, 6, 27, 28, 112, 172, 27, 28, 162, 0, 7, 4, 167, 0, 4, 3]
abbrev dktX4_done_3 : List UInt8 := dkwX4_done_3 ++ dktX4_done_4
def dkwX4_done_2 : List UInt8 := [27, 28, 96, 172, 27, 28, 100, 172, 27, 28, 104, 172, 28, 154, 0, 7, 3, 167, 0, 6, 27, 28, 108, 172]
abbrev dktX4_done_2 : List UInt8 := dkwX4_done_2 ++ dktX4_done_3
def dkwX4_done_1 : List UInt8 := [170, 0, 0, 0, 0, 0, 214, 0, 0, 0, 37, 0, 0, 0, 62, 0, 0, 0, 143, 0, 0, 0, 197, 0, 0, 0, 214, 0, 0, 0, 214, 0, 0, 0, 214, 0, 0, 0, 127, 0, 0, 0, 119, 0, 0, 0, 214, 0, 0, 0, 123, 0, 0, 0, 214, 0, 0, 0, 131, 0, 0, 0, 214, 0, 0, 0, 214, 0, 0, 0, 214, 0, 0, 0, 214, 0, 0, 0, 214, 0, 0, 0, 214, 0, 0, 0, 214, 0, 0, 0, 214, 0, 0, 0, 214, 0, 0, 0, 214, 0, 0, 0, 214, 0, 0, 0, 214, 0, 0, 0, 155, 0, 0, 0, 183, 0, 0, 0, 169]
abbrev dktX4_done_1 : List UInt8 := dkwX4_done_1 ++ dktX4_done_2
def dkwX4_done_0 : List UInt8 := [26]
abbrev dktX4_done_0 : List UInt8 := dkwX4_done_0 ++ dktX4_done_1
theorem dksX4_done_0 : cX4_done.data.toList.drop 0 = dktX4_done_0 := by decide +kernel
theorem dksX4_done_1 : cX4_done.data.toList.drop 1 = dktX4_done_1 := dk_seg dksX4_done_0 1 rfl rfl
theorem dksX4_done_2 : cX4_done.data.toList.drop 120 = dktX4_done_2 := dk_seg dksX4_done_1 119 rfl rfl
theorem dksX4_done_3 : cX4_done.data.toList.drop 144 = dktX4_done_3 := dk_seg dksX4_done_2 24 rfl rfl
theorem dksX4_done_4 : cX4_done.data.toList.drop 166 = dktX4_done_4 := dk_seg dksX4_done_3 22 rfl rfl
theorem dksX4_done_5 : cX4_done.data.toList.drop 190 = dktX4_done_5 := dk_seg dksX4_done_4 24 rfl rfl
theorem dksX4_done_6 : cX4_done.data.toList.drop 214 = dktX4_done_6 := dk_seg dksX4_done_5 24 rfl rfl
theorem dX4_done_0 : decode cX4_done 0 = .ok (.iload_n 0, 1) := dk_26 (dk_at dksX4_done_0 0 rfl rfl)
theorem dX4_done_1 : decode cX4_done 1 = .ok (.tableswitch 214 37 62 #[143, 197, 214, 214, 214, 127, 119, 214, 123, 214, 131, 214, 214, 214, 214, 214, 214, 214, 214, 214, 214, 214, 214, 155, 183, 169], 119) := by decide +kernel
theorem dX4_done_120 : decode cX4_done 120 = .ok (.iload_n 1, 1) := dk_27 (dk_at dksX4_done_2 0 rfl rfl)
theorem dX4_done_121 : decode cX4_done 121 = .ok (.iload_n 2, 1) := dk_28 (dk_at dksX4_done_2 1 rfl rfl)
theorem dX4_done_122 : decode cX4_done 122 = .ok (.iadd, 1) := dk_96 (dk_at dksX4_done_2 2 rfl rfl)
theorem dX4_done_123 : decode cX4_done 123 = .ok (.ireturn, 1) := dk_172 (dk_at dksX4_done_2 3 rfl rfl)
theorem dX4_done_124 : decode cX4_done 124 = .ok (.iload_n 1, 1) := dk_27 (dk_at dksX4_done_2 4 rfl rfl)
theorem dX4_done_125 : decode cX4_done 125 = .ok (.iload_n 2, 1) := dk_28 (dk_at dksX4_done_2 5 rfl rfl)
theorem dX4_done_126 : decode cX4_done 126 = .ok (.isub, 1) := dk_100 (dk_at dksX4_done_2 6 rfl rfl)
theorem dX4_done_127 : decode cX4_done 127 = .ok (.ireturn, 1) := dk_172 (dk_at dksX4_done_2 7 rfl rfl)
theorem dX4_done_128 : decode cX4_done 128 = .ok (.iload_n 1, 1) := dk_27 (dk_at dksX4_done_2 8 rfl rfl)
theorem dX4_done_129 : decode cX4_done 129 = .ok (.iload_n 2, 1) := dk_28 (dk_at dksX4_done_2 9 rfl rfl)
theorem dX4_done_130 : decode cX4_done 130 = .ok (.imul, 1) := dk_104 (dk_at dksX4_done_2 10 rfl rfl)
theorem dX4_done_131 : decode cX4_done 131 = .ok (.ireturn, 1) := dk_172 (dk_at dksX4_done_2 11 rfl rfl)
theorem dX4_done_132 : decode cX4_done 132 = .ok (.iload_n 2, 1) := dk_28 (dk_at dksX4_done_2 12 rfl rfl)
theorem dX4_done_133 : decode cX4_done 133 = .ok (.ifCond .ne 7, 3) := dk_154 0 7 (dk_at dksX4_done_2 13 rfl rfl)
theorem dX4_done_136 : decode cX4_done 136 = .ok (.iconst 0, 1) := dk_3 (dk_at dksX4_done_2 16 rfl rfl)
theorem dX4_done_137 : decode cX4_done 137 = .ok (.goto 6, 3) := dk_167 0 6 (dk_at dksX4_done_2 17 rfl rfl)
theorem dX4_done_140 : decode cX4_done 140 = .ok (.iload_n 1, 1) := dk_27 (dk_at dksX4_done_2 20 rfl rfl)
theorem dX4_done_141 : decode cX4_done 141 = .ok (.iload_n 2, 1) := dk_28 (dk_at dksX4_done_2 21 rfl rfl)
theorem dX4_done_142 : decode cX4_done 142 = .ok (.idiv, 1) := dk_108 (dk_at dksX4_done_2 22 rfl rfl)
theorem dX4_done_143 : decode cX4_done 143 = .ok (.ireturn, 1) := dk_172 (dk_at dksX4_done_2 23 rfl rfl)
theorem dX4_done_144 : decode cX4_done 144 = .ok (.iload_n 2, 1) := dk_28 (dk_at dksX4_done_3 0 rfl rfl)
theorem dX4_done_145 : decode cX4_done 145 = .ok (.ifCond .ne 7, 3) := dk_154 0 7 (dk_at dksX4_done_3 1 rfl rfl)
theorem dX4_done_148 : decode cX4_done 148 = .ok (.iconst 0, 1) := dk_3 (dk_at dksX4_done_3 4 rfl rfl)
theorem dX4_done_149 : decode cX4_done 149 = .ok (.goto 6, 3) := dk_167 0 6 (dk_at dksX4_done_3 5 rfl rfl)
theorem dX4_done_152 : decode cX4_done 152 = .ok (.iload_n 1, 1) := dk_27 (dk_at dksX4_done_3 8 rfl rfl)
theorem dX4_done_153 : decode cX4_done 153 = .ok (.iload_n 2, 1) := dk_28 (dk_at dksX4_done_3 9 rfl rfl)
theorem dX4_done_154 : decode cX4_done 154 = .ok (.irem, 1) := dk_112 (dk_at dksX4_done_3 10 rfl rfl)
theorem dX4_done_155 : decode cX4_done 155 = .ok (.ireturn, 1) := dk_172 (dk_at dksX4_done_3 11 rfl rfl)
theorem dX4_done_156 : decode cX4_done 156 = .ok (.iload_n 1, 1) := dk_27 (dk_at dksX4_done_3 12 rfl rfl)
theorem dX4_done_157 : decode cX4_done 157 = .ok (.iload_n 2, 1) := dk_28 (dk_at dksX4_done_3 13 rfl rfl)
theorem dX4_done_158 : decode cX4_done 158 = .ok (.if_icmp .ge 7, 3) := dk_162 0 7 (dk_at dksX4_done_3 14 rfl rfl)
theorem dX4_done_161 : decode cX4_done 161 = .ok (.iconst 1, 1) := dk_4 (dk_at dksX4_done_3 17 rfl rfl)
theorem dX4_done_162 : decode cX4_done 162 = .ok (.goto 4, 3) := dk_167 0 4 (dk_at dksX4_done_3 18 rfl rfl)
theorem dX4_done_165 : decode cX4_done 165 = .ok (.iconst 0, 1) := dk_3 (dk_at dksX4_done_3 21 rfl rfl)
theorem dX4_done_166 : decode cX4_done 166 = .ok (.invokestatic 354, 3) := dk_184 1 98 (dk_at dksX4_done_4 0 rfl rfl)
theorem dX4_done_169 : decode cX4_done 169 = .ok (.ireturn, 1) := dk_172 (dk_at dksX4_done_4 3 rfl rfl)
theorem dX4_done_170 : decode cX4_done 170 = .ok (.iload_n 1, 1) := dk_27 (dk_at dksX4_done_4 4 rfl rfl)
theorem dX4_done_171 : decode cX4_done 171 = .ok (.iload_n 2, 1) := dk_28 (dk_at dksX4_done_4 5 rfl rfl)
theorem dX4_done_172 : decode cX4_done 172 = .ok (.if_icmp .le 7, 3) := dk_164 0 7 (dk_at dksX4_done_4 6 rfl rfl)
theorem dX4_done_175 : decode cX4_done 175 = .ok (.iconst 1, 1) := dk_4 (dk_at dksX4_done_4 9 rfl rfl)
theorem dX4_done_176 : decode cX4_done 176 = .ok (.goto 4, 3) := dk_167 0 4 (dk_at dksX4_done_4 10 rfl rfl)
theorem dX4_done_179 : decode cX4_done 179 = .ok (.iconst 0, 1) := dk_3 (dk_at dksX4_done_4 13 rfl rfl)
theorem dX4_done_180 : decode cX4_done 180 = .ok (.invokestatic 354, 3) := dk_184 1 98 (dk_at dksX4_done_4 14 rfl rfl)
theorem dX4_done_183 : decode cX4_done 183 = .ok (.ireturn, 1) := dk_172 (dk_at dksX4_done_4 17 rfl rfl)
theorem dX4_done_184 : decode cX4_done 184 = .ok (.iload_n 1, 1) := dk_27 (dk_at dksX4_done_4 18 rfl rfl)
theorem dX4_done_185 : decode cX4_done 185 = .ok (.iload_n 2, 1) := dk_28 (dk_at dksX4_done_4 19 rfl rfl)
theorem dX4_done_186 : decode cX4_done 186 = .ok (.if_icmp .ne 7, 3) := dk_160 0 7 (dk_at dksX4_done_4 20 rfl rfl)
theorem dX4_done_189 : decode cX4_done 189 = .ok (.iconst 1, 1) := dk_4 (dk_at dksX4_done_4 23 rfl rfl)
theorem dX4_done_190 : decode cX4_done 190 = .ok (.goto 4, 3) := dk_167 0 4 (dk_at dksX4_done_5 0 rfl rfl)
theorem dX4_done_193 : decode cX4_done 193 = .ok (.iconst 0, 1) := dk_3 (dk_at dksX4_done_5 3 rfl rfl)
theorem dX4_done_194 : decode cX4_done 194 = .ok (.invokestatic 354, 3) := dk_184 1 98 (dk_at dksX4_done_5 4 rfl rfl)
theorem dX4_done_197 : decode cX4_done 197 = .ok (.ireturn, 1) := dk_172 (dk_at dksX4_done_5 7 rfl rfl)
theorem dX4_done_198 : decode cX4_done 198 = .ok (.iload_n 1, 1) := dk_27 (dk_at dksX4_done_5 8 rfl rfl)
theorem dX4_done_199 : decode cX4_done 199 = .ok (.ifCond .eq 11, 3) := dk_153 0 11 (dk_at dksX4_done_5 9 rfl rfl)
theorem dX4_done_202 : decode cX4_done 202 = .ok (.iload_n 2, 1) := dk_28 (dk_at dksX4_done_5 12 rfl rfl)
theorem dX4_done_203 : decode cX4_done 203 = .ok (.ifCond .eq 7, 3) := dk_153 0 7 (dk_at dksX4_done_5 13 rfl rfl)
theorem dX4_done_206 : decode cX4_done 206 = .ok (.iconst 1, 1) := dk_4 (dk_at dksX4_done_5 16 rfl rfl)
theorem dX4_done_207 : decode cX4_done 207 = .ok (.goto 4, 3) := dk_167 0 4 (dk_at dksX4_done_5 17 rfl rfl)
theorem dX4_done_210 : decode cX4_done 210 = .ok (.iconst 0, 1) := dk_3 (dk_at dksX4_done_5 20 rfl rfl)
theorem dX4_done_211 : decode cX4_done 211 = .ok (.invokestatic 354, 3) := dk_184 1 98 (dk_at dksX4_done_5 21 rfl rfl)
theorem dX4_done_214 : decode cX4_done 214 = .ok (.ireturn, 1) := dk_172 (dk_at dksX4_done_6 0 rfl rfl)
theorem dX4_done_215 : decode cX4_done 215 = .ok (.iload_n 1, 1) := dk_27 (dk_at dksX4_done_6 1 rfl rfl)
theorem dX4_done_216 : decode cX4_done 216 = .ok (.ifCond .ne 7, 3) := dk_154 0 7 (dk_at dksX4_done_6 2 rfl rfl)
theorem dX4_done_219 : decode cX4_done 219 = .ok (.iload_n 2, 1) := dk_28 (dk_at dksX4_done_6 5 rfl rfl)
theorem dX4_done_220 : decode cX4_done 220 = .ok (.ifCond .eq 7, 3) := dk_153 0 7 (dk_at dksX4_done_6 6 rfl rfl)
theorem dX4_done_223 : decode cX4_done 223 = .ok (.iconst 1, 1) := dk_4 (dk_at dksX4_done_6 9 rfl rfl)
theorem dX4_done_224 : decode cX4_done 224 = .ok (.goto 4, 3) := dk_167 0 4 (dk_at dksX4_done_6 10 rfl rfl)
theorem dX4_done_227 : decode cX4_done 227 = .ok (.iconst 0, 1) := dk_3 (dk_at dksX4_done_6 13 rfl rfl)
theorem dX4_done_228 : decode cX4_done 228 = .ok (.invokestatic 354, 3) := dk_184 1 98 (dk_at dksX4_done_6 14 rfl rfl)
theorem dX4_done_231 : decode cX4_done 231 = .ok (.ireturn, 1) := dk_172 (dk_at dksX4_done_6 17 rfl rfl)
abbrev cX4_chooses : ByteArray := prog_23_method_83_code
def yX4_chooses : MethodName := ⟨RX4, "chooses", "(I)I"⟩
def dkwX4_chooses_1 : List UInt8 := [182, 2, 39, 184, 2, 60, 172]
abbrev dktX4_chooses_1 : List UInt8 := dkwX4_chooses_1 ++ []
def dkwX4_chooses_0 : List UInt8 := [42, 27, 182, 2, 51, 154, 0, 6, 16, 254, 172, 42, 182, 2, 54, 42, 27, 42, 180, 0, 112, 27, 46]
abbrev dktX4_chooses_0 : List UInt8 := dkwX4_chooses_0 ++ dktX4_chooses_1
theorem dksX4_chooses_0 : cX4_chooses.data.toList.drop 0 = dktX4_chooses_0 := by decide +kernel
theorem dksX4_chooses_1 : cX4_chooses.data.toList.drop 23 = dktX4_chooses_1 := dk_seg dksX4_chooses_0 23 rfl rfl
theorem dX4_chooses_0 : decode cX4_chooses 0 = .ok (.aload_n 0, 1) := dk_42 (dk_at dksX4_chooses_0 0 rfl rfl)
theorem dX4_chooses_1 : decode cX4_chooses 1 = .ok (.iload_n 1, 1) := dk_27 (dk_at dksX4_chooses_0 1 rfl rfl)
theorem dX4_chooses_2 : decode cX4_chooses 2 = .ok (.invokevirtual 563, 3) := dk_182 2 51 (dk_at dksX4_chooses_0 2 rfl rfl)
theorem dX4_chooses_5 : decode cX4_chooses 5 = .ok (.ifCond .ne 6, 3) := dk_154 0 6 (dk_at dksX4_chooses_0 5 rfl rfl)
theorem dX4_chooses_8 : decode cX4_chooses 8 = .ok (.bipush (-2), 2) := dk_16 254 (dk_at dksX4_chooses_0 8 rfl rfl)
theorem dX4_chooses_10 : decode cX4_chooses 10 = .ok (.ireturn, 1) := dk_172 (dk_at dksX4_chooses_0 10 rfl rfl)
theorem dX4_chooses_11 : decode cX4_chooses 11 = .ok (.aload_n 0, 1) := dk_42 (dk_at dksX4_chooses_0 11 rfl rfl)
theorem dX4_chooses_12 : decode cX4_chooses 12 = .ok (.invokevirtual 566, 3) := dk_182 2 54 (dk_at dksX4_chooses_0 12 rfl rfl)
theorem dX4_chooses_15 : decode cX4_chooses 15 = .ok (.aload_n 0, 1) := dk_42 (dk_at dksX4_chooses_0 15 rfl rfl)
theorem dX4_chooses_16 : decode cX4_chooses 16 = .ok (.iload_n 1, 1) := dk_27 (dk_at dksX4_chooses_0 16 rfl rfl)
theorem dX4_chooses_17 : decode cX4_chooses 17 = .ok (.aload_n 0, 1) := dk_42 (dk_at dksX4_chooses_0 17 rfl rfl)
theorem dX4_chooses_18 : decode cX4_chooses 18 = .ok (.getfield 112, 3) := dk_180 0 112 (dk_at dksX4_chooses_0 18 rfl rfl)
theorem dX4_chooses_21 : decode cX4_chooses 21 = .ok (.iload_n 1, 1) := dk_27 (dk_at dksX4_chooses_0 21 rfl rfl)
theorem dX4_chooses_22 : decode cX4_chooses 22 = .ok (.iaload, 1) := dk_46 (dk_at dksX4_chooses_0 22 rfl rfl)
theorem dX4_chooses_23 : decode cX4_chooses 23 = .ok (.invokevirtual 551, 3) := dk_182 2 39 (dk_at dksX4_chooses_1 0 rfl rfl)
theorem dX4_chooses_26 : decode cX4_chooses 26 = .ok (.invokestatic 572, 3) := dk_184 2 60 (dk_at dksX4_chooses_1 3 rfl rfl)
theorem dX4_chooses_29 : decode cX4_chooses 29 = .ok (.ireturn, 1) := dk_172 (dk_at dksX4_chooses_1 6 rfl rfl)
abbrev cX4_choice : ByteArray := prog_23_method_75_code
def yX4_choice : MethodName := ⟨RX4, "choice", "(II)I"⟩
def dkwX4_choice_4 : List UInt8 := [21, 5, 62, 21, 6, 54, 4, 132, 5, 1, 167, 255, 160, 29, 172]
abbrev dktX4_choice_4 : List UInt8 := dkwX4_choice_4 ++ []
def dkwX4_choice_3 : List UInt8 := [8, 112, 182, 2, 26, 182, 1, 255, 54, 6, 29, 155, 0, 13, 21, 6, 21, 4, 163, 0, 6, 167, 0, 10]
abbrev dktX4_choice_3 : List UInt8 := dkwX4_choice_3 ++ dktX4_choice_4
def dkwX4_choice_2 : List UInt8 := [167, 0, 32, 42, 8, 28, 96, 27, 21, 5, 8, 108, 21, 5, 8, 112, 42, 27, 21, 5, 8, 108, 21, 5]
abbrev dktX4_choice_2 : List UInt8 := dkwX4_choice_2 ++ dktX4_choice_3
def dkwX4_choice_1 : List UInt8 := [108, 21, 5, 8, 112, 182, 2, 36, 154, 0, 6, 167, 0, 66, 42, 180, 1, 208, 154, 0, 7, 3]
abbrev dktX4_choice_1 : List UInt8 := dkwX4_choice_1 ++ dktX4_choice_2
def dkwX4_choice_0 : List UInt8 := [2, 62, 3, 54, 4, 3, 54, 5, 21, 5, 8, 42, 180, 1, 211, 104, 162, 0, 91, 42, 27, 21, 5, 8]
abbrev dktX4_choice_0 : List UInt8 := dkwX4_choice_0 ++ dktX4_choice_1
theorem dksX4_choice_0 : cX4_choice.data.toList.drop 0 = dktX4_choice_0 := by decide +kernel
theorem dksX4_choice_1 : cX4_choice.data.toList.drop 24 = dktX4_choice_1 := dk_seg dksX4_choice_0 24 rfl rfl
theorem dksX4_choice_2 : cX4_choice.data.toList.drop 46 = dktX4_choice_2 := dk_seg dksX4_choice_1 22 rfl rfl
theorem dksX4_choice_3 : cX4_choice.data.toList.drop 70 = dktX4_choice_3 := dk_seg dksX4_choice_2 24 rfl rfl
theorem dksX4_choice_4 : cX4_choice.data.toList.drop 94 = dktX4_choice_4 := dk_seg dksX4_choice_3 24 rfl rfl
theorem dX4_choice_0 : decode cX4_choice 0 = .ok (.iconst (-1), 1) := dk_2 (dk_at dksX4_choice_0 0 rfl rfl)
theorem dX4_choice_1 : decode cX4_choice 1 = .ok (.istore_n 3, 1) := dk_62 (dk_at dksX4_choice_0 1 rfl rfl)
theorem dX4_choice_2 : decode cX4_choice 2 = .ok (.iconst 0, 1) := dk_3 (dk_at dksX4_choice_0 2 rfl rfl)
theorem dX4_choice_3 : decode cX4_choice 3 = .ok (.istore 4, 2) := dk_54 4 (dk_at dksX4_choice_0 3 rfl rfl)
theorem dX4_choice_5 : decode cX4_choice 5 = .ok (.iconst 0, 1) := dk_3 (dk_at dksX4_choice_0 5 rfl rfl)
theorem dX4_choice_6 : decode cX4_choice 6 = .ok (.istore 5, 2) := dk_54 5 (dk_at dksX4_choice_0 6 rfl rfl)
theorem dX4_choice_8 : decode cX4_choice 8 = .ok (.iload 5, 2) := dk_21 5 (dk_at dksX4_choice_0 8 rfl rfl)
theorem dX4_choice_10 : decode cX4_choice 10 = .ok (.iconst 5, 1) := dk_8 (dk_at dksX4_choice_0 10 rfl rfl)
theorem dX4_choice_11 : decode cX4_choice 11 = .ok (.aload_n 0, 1) := dk_42 (dk_at dksX4_choice_0 11 rfl rfl)
theorem dX4_choice_12 : decode cX4_choice 12 = .ok (.getfield 467, 3) := dk_180 1 211 (dk_at dksX4_choice_0 12 rfl rfl)
theorem dX4_choice_15 : decode cX4_choice 15 = .ok (.imul, 1) := dk_104 (dk_at dksX4_choice_0 15 rfl rfl)
theorem dX4_choice_16 : decode cX4_choice 16 = .ok (.if_icmp .ge 91, 3) := dk_162 0 91 (dk_at dksX4_choice_0 16 rfl rfl)
theorem dX4_choice_19 : decode cX4_choice 19 = .ok (.aload_n 0, 1) := dk_42 (dk_at dksX4_choice_0 19 rfl rfl)
theorem dX4_choice_20 : decode cX4_choice 20 = .ok (.iload_n 1, 1) := dk_27 (dk_at dksX4_choice_0 20 rfl rfl)
theorem dX4_choice_21 : decode cX4_choice 21 = .ok (.iload 5, 2) := dk_21 5 (dk_at dksX4_choice_0 21 rfl rfl)
theorem dX4_choice_23 : decode cX4_choice 23 = .ok (.iconst 5, 1) := dk_8 (dk_at dksX4_choice_0 23 rfl rfl)
theorem dX4_choice_24 : decode cX4_choice 24 = .ok (.idiv, 1) := dk_108 (dk_at dksX4_choice_1 0 rfl rfl)
theorem dX4_choice_25 : decode cX4_choice 25 = .ok (.iload 5, 2) := dk_21 5 (dk_at dksX4_choice_1 1 rfl rfl)
theorem dX4_choice_27 : decode cX4_choice 27 = .ok (.iconst 5, 1) := dk_8 (dk_at dksX4_choice_1 3 rfl rfl)
theorem dX4_choice_28 : decode cX4_choice 28 = .ok (.irem, 1) := dk_112 (dk_at dksX4_choice_1 4 rfl rfl)
theorem dX4_choice_29 : decode cX4_choice 29 = .ok (.invokevirtual 548, 3) := dk_182 2 36 (dk_at dksX4_choice_1 5 rfl rfl)
theorem dX4_choice_32 : decode cX4_choice 32 = .ok (.ifCond .ne 6, 3) := dk_154 0 6 (dk_at dksX4_choice_1 8 rfl rfl)
theorem dX4_choice_35 : decode cX4_choice 35 = .ok (.goto 66, 3) := dk_167 0 66 (dk_at dksX4_choice_1 11 rfl rfl)
theorem dX4_choice_38 : decode cX4_choice 38 = .ok (.aload_n 0, 1) := dk_42 (dk_at dksX4_choice_1 14 rfl rfl)
theorem dX4_choice_39 : decode cX4_choice 39 = .ok (.getfield 464, 3) := dk_180 1 208 (dk_at dksX4_choice_1 15 rfl rfl)
theorem dX4_choice_42 : decode cX4_choice 42 = .ok (.ifCond .ne 7, 3) := dk_154 0 7 (dk_at dksX4_choice_1 18 rfl rfl)
theorem dX4_choice_45 : decode cX4_choice 45 = .ok (.iconst 0, 1) := dk_3 (dk_at dksX4_choice_1 21 rfl rfl)
theorem dX4_choice_46 : decode cX4_choice 46 = .ok (.goto 32, 3) := dk_167 0 32 (dk_at dksX4_choice_2 0 rfl rfl)
theorem dX4_choice_49 : decode cX4_choice 49 = .ok (.aload_n 0, 1) := dk_42 (dk_at dksX4_choice_2 3 rfl rfl)
theorem dX4_choice_50 : decode cX4_choice 50 = .ok (.iconst 5, 1) := dk_8 (dk_at dksX4_choice_2 4 rfl rfl)
theorem dX4_choice_51 : decode cX4_choice 51 = .ok (.iload_n 2, 1) := dk_28 (dk_at dksX4_choice_2 5 rfl rfl)
theorem dX4_choice_52 : decode cX4_choice 52 = .ok (.iadd, 1) := dk_96 (dk_at dksX4_choice_2 6 rfl rfl)
theorem dX4_choice_53 : decode cX4_choice 53 = .ok (.iload_n 1, 1) := dk_27 (dk_at dksX4_choice_2 7 rfl rfl)
theorem dX4_choice_54 : decode cX4_choice 54 = .ok (.iload 5, 2) := dk_21 5 (dk_at dksX4_choice_2 8 rfl rfl)
theorem dX4_choice_56 : decode cX4_choice 56 = .ok (.iconst 5, 1) := dk_8 (dk_at dksX4_choice_2 10 rfl rfl)
theorem dX4_choice_57 : decode cX4_choice 57 = .ok (.idiv, 1) := dk_108 (dk_at dksX4_choice_2 11 rfl rfl)
theorem dX4_choice_58 : decode cX4_choice 58 = .ok (.iload 5, 2) := dk_21 5 (dk_at dksX4_choice_2 12 rfl rfl)
theorem dX4_choice_60 : decode cX4_choice 60 = .ok (.iconst 5, 1) := dk_8 (dk_at dksX4_choice_2 14 rfl rfl)
theorem dX4_choice_61 : decode cX4_choice 61 = .ok (.irem, 1) := dk_112 (dk_at dksX4_choice_2 15 rfl rfl)
theorem dX4_choice_62 : decode cX4_choice 62 = .ok (.aload_n 0, 1) := dk_42 (dk_at dksX4_choice_2 16 rfl rfl)
theorem dX4_choice_63 : decode cX4_choice 63 = .ok (.iload_n 1, 1) := dk_27 (dk_at dksX4_choice_2 17 rfl rfl)
theorem dX4_choice_64 : decode cX4_choice 64 = .ok (.iload 5, 2) := dk_21 5 (dk_at dksX4_choice_2 18 rfl rfl)
theorem dX4_choice_66 : decode cX4_choice 66 = .ok (.iconst 5, 1) := dk_8 (dk_at dksX4_choice_2 20 rfl rfl)
theorem dX4_choice_67 : decode cX4_choice 67 = .ok (.idiv, 1) := dk_108 (dk_at dksX4_choice_2 21 rfl rfl)
theorem dX4_choice_68 : decode cX4_choice 68 = .ok (.iload 5, 2) := dk_21 5 (dk_at dksX4_choice_2 22 rfl rfl)
theorem dX4_choice_70 : decode cX4_choice 70 = .ok (.iconst 5, 1) := dk_8 (dk_at dksX4_choice_3 0 rfl rfl)
theorem dX4_choice_71 : decode cX4_choice 71 = .ok (.irem, 1) := dk_112 (dk_at dksX4_choice_3 1 rfl rfl)
theorem dX4_choice_72 : decode cX4_choice 72 = .ok (.invokevirtual 538, 3) := dk_182 2 26 (dk_at dksX4_choice_3 2 rfl rfl)
theorem dX4_choice_75 : decode cX4_choice 75 = .ok (.invokevirtual 511, 3) := dk_182 1 255 (dk_at dksX4_choice_3 5 rfl rfl)
theorem dX4_choice_78 : decode cX4_choice 78 = .ok (.istore 6, 2) := dk_54 6 (dk_at dksX4_choice_3 8 rfl rfl)
theorem dX4_choice_80 : decode cX4_choice 80 = .ok (.iload_n 3, 1) := dk_29 (dk_at dksX4_choice_3 10 rfl rfl)
theorem dX4_choice_81 : decode cX4_choice 81 = .ok (.ifCond .lt 13, 3) := dk_155 0 13 (dk_at dksX4_choice_3 11 rfl rfl)
theorem dX4_choice_84 : decode cX4_choice 84 = .ok (.iload 6, 2) := dk_21 6 (dk_at dksX4_choice_3 14 rfl rfl)
theorem dX4_choice_86 : decode cX4_choice 86 = .ok (.iload 4, 2) := dk_21 4 (dk_at dksX4_choice_3 16 rfl rfl)
theorem dX4_choice_88 : decode cX4_choice 88 = .ok (.if_icmp .gt 6, 3) := dk_163 0 6 (dk_at dksX4_choice_3 18 rfl rfl)
theorem dX4_choice_91 : decode cX4_choice 91 = .ok (.goto 10, 3) := dk_167 0 10 (dk_at dksX4_choice_3 21 rfl rfl)
theorem dX4_choice_94 : decode cX4_choice 94 = .ok (.iload 5, 2) := dk_21 5 (dk_at dksX4_choice_4 0 rfl rfl)
theorem dX4_choice_96 : decode cX4_choice 96 = .ok (.istore_n 3, 1) := dk_62 (dk_at dksX4_choice_4 2 rfl rfl)
theorem dX4_choice_97 : decode cX4_choice 97 = .ok (.iload 6, 2) := dk_21 6 (dk_at dksX4_choice_4 3 rfl rfl)
theorem dX4_choice_99 : decode cX4_choice 99 = .ok (.istore 4, 2) := dk_54 4 (dk_at dksX4_choice_4 5 rfl rfl)
theorem dX4_choice_101 : decode cX4_choice 101 = .ok (.iinc 5 1, 3) := dk_132 5 1 (dk_at dksX4_choice_4 7 rfl rfl)
theorem dX4_choice_104 : decode cX4_choice 104 = .ok (.goto (-96), 3) := dk_167 255 160 (dk_at dksX4_choice_4 10 rfl rfl)
theorem dX4_choice_107 : decode cX4_choice 107 = .ok (.iload_n 3, 1) := dk_29 (dk_at dksX4_choice_4 13 rfl rfl)
theorem dX4_choice_108 : decode cX4_choice 108 = .ok (.ireturn, 1) := dk_172 (dk_at dksX4_choice_4 14 rfl rfl)
abbrev cX4_told10 : ByteArray := prog_23_method_82_code
def yX4_told10 : MethodName := ⟨RX4, "told10", "(I)I"⟩
def dkwX4_told10_0 : List UInt8 := [26, 156, 0, 7, 2, 167, 0, 13, 16, 10, 26, 8, 108, 104, 26, 8, 112, 96, 172]
abbrev dktX4_told10_0 : List UInt8 := dkwX4_told10_0 ++ []
theorem dksX4_told10_0 : cX4_told10.data.toList.drop 0 = dktX4_told10_0 := by decide +kernel
theorem dX4_told10_0 : decode cX4_told10 0 = .ok (.iload_n 0, 1) := dk_26 (dk_at dksX4_told10_0 0 rfl rfl)
theorem dX4_told10_1 : decode cX4_told10 1 = .ok (.ifCond .ge 7, 3) := dk_156 0 7 (dk_at dksX4_told10_0 1 rfl rfl)
theorem dX4_told10_4 : decode cX4_told10 4 = .ok (.iconst (-1), 1) := dk_2 (dk_at dksX4_told10_0 4 rfl rfl)
theorem dX4_told10_5 : decode cX4_told10 5 = .ok (.goto 13, 3) := dk_167 0 13 (dk_at dksX4_told10_0 5 rfl rfl)
theorem dX4_told10_8 : decode cX4_told10 8 = .ok (.bipush 10, 2) := dk_16 10 (dk_at dksX4_told10_0 8 rfl rfl)
theorem dX4_told10_10 : decode cX4_told10 10 = .ok (.iload_n 0, 1) := dk_26 (dk_at dksX4_told10_0 10 rfl rfl)
theorem dX4_told10_11 : decode cX4_told10 11 = .ok (.iconst 5, 1) := dk_8 (dk_at dksX4_told10_0 11 rfl rfl)
theorem dX4_told10_12 : decode cX4_told10 12 = .ok (.idiv, 1) := dk_108 (dk_at dksX4_told10_0 12 rfl rfl)
theorem dX4_told10_13 : decode cX4_told10 13 = .ok (.imul, 1) := dk_104 (dk_at dksX4_told10_0 13 rfl rfl)
theorem dX4_told10_14 : decode cX4_told10 14 = .ok (.iload_n 0, 1) := dk_26 (dk_at dksX4_told10_0 14 rfl rfl)
theorem dX4_told10_15 : decode cX4_told10 15 = .ok (.iconst 5, 1) := dk_8 (dk_at dksX4_told10_0 15 rfl rfl)
theorem dX4_told10_16 : decode cX4_told10 16 = .ok (.irem, 1) := dk_112 (dk_at dksX4_told10_0 16 rfl rfl)
theorem dX4_told10_17 : decode cX4_told10 17 = .ok (.iadd, 1) := dk_96 (dk_at dksX4_told10_0 17 rfl rfl)
theorem dX4_told10_18 : decode cX4_told10 18 = .ok (.ireturn, 1) := dk_172 (dk_at dksX4_told10_0 18 rfl rfl)
abbrev cX4_go : ByteArray := prog_23_method_86_code
def yX4_go : MethodName := ⟨RX4, "go", "(III)I"⟩
def dkwX4_go_1 : List UInt8 := [54, 4, 42, 182, 1, 223, 21, 4, 153, 0, 7, 4, 167, 0, 4, 3, 172]
abbrev dktX4_go_1 : List UInt8 := dkwX4_go_1 ++ []
def dkwX4_go_0 : List UInt8 := [42, 27, 28, 29, 182, 2, 57, 154, 0, 5, 2, 172, 42, 182, 2, 63, 42, 27, 28, 29, 182, 2, 42]
abbrev dktX4_go_0 : List UInt8 := dkwX4_go_0 ++ dktX4_go_1
theorem dksX4_go_0 : cX4_go.data.toList.drop 0 = dktX4_go_0 := by decide +kernel
theorem dksX4_go_1 : cX4_go.data.toList.drop 23 = dktX4_go_1 := dk_seg dksX4_go_0 23 rfl rfl
theorem dX4_go_0 : decode cX4_go 0 = .ok (.aload_n 0, 1) := dk_42 (dk_at dksX4_go_0 0 rfl rfl)
theorem dX4_go_1 : decode cX4_go 1 = .ok (.iload_n 1, 1) := dk_27 (dk_at dksX4_go_0 1 rfl rfl)
theorem dX4_go_2 : decode cX4_go 2 = .ok (.iload_n 2, 1) := dk_28 (dk_at dksX4_go_0 2 rfl rfl)
theorem dX4_go_3 : decode cX4_go 3 = .ok (.iload_n 3, 1) := dk_29 (dk_at dksX4_go_0 3 rfl rfl)
theorem dX4_go_4 : decode cX4_go 4 = .ok (.invokevirtual 569, 3) := dk_182 2 57 (dk_at dksX4_go_0 4 rfl rfl)
theorem dX4_go_7 : decode cX4_go 7 = .ok (.ifCond .ne 5, 3) := dk_154 0 5 (dk_at dksX4_go_0 7 rfl rfl)
theorem dX4_go_10 : decode cX4_go 10 = .ok (.iconst (-1), 1) := dk_2 (dk_at dksX4_go_0 10 rfl rfl)
theorem dX4_go_11 : decode cX4_go 11 = .ok (.ireturn, 1) := dk_172 (dk_at dksX4_go_0 11 rfl rfl)
theorem dX4_go_12 : decode cX4_go 12 = .ok (.aload_n 0, 1) := dk_42 (dk_at dksX4_go_0 12 rfl rfl)
theorem dX4_go_13 : decode cX4_go 13 = .ok (.invokevirtual 575, 3) := dk_182 2 63 (dk_at dksX4_go_0 13 rfl rfl)
theorem dX4_go_16 : decode cX4_go 16 = .ok (.aload_n 0, 1) := dk_42 (dk_at dksX4_go_0 16 rfl rfl)
theorem dX4_go_17 : decode cX4_go 17 = .ok (.iload_n 1, 1) := dk_27 (dk_at dksX4_go_0 17 rfl rfl)
theorem dX4_go_18 : decode cX4_go 18 = .ok (.iload_n 2, 1) := dk_28 (dk_at dksX4_go_0 18 rfl rfl)
theorem dX4_go_19 : decode cX4_go 19 = .ok (.iload_n 3, 1) := dk_29 (dk_at dksX4_go_0 19 rfl rfl)
theorem dX4_go_20 : decode cX4_go 20 = .ok (.invokevirtual 554, 3) := dk_182 2 42 (dk_at dksX4_go_0 20 rfl rfl)
theorem dX4_go_23 : decode cX4_go 23 = .ok (.istore 4, 2) := dk_54 4 (dk_at dksX4_go_1 0 rfl rfl)
theorem dX4_go_25 : decode cX4_go 25 = .ok (.aload_n 0, 1) := dk_42 (dk_at dksX4_go_1 2 rfl rfl)
theorem dX4_go_26 : decode cX4_go 26 = .ok (.invokevirtual 479, 3) := dk_182 1 223 (dk_at dksX4_go_1 3 rfl rfl)
theorem dX4_go_29 : decode cX4_go 29 = .ok (.iload 4, 2) := dk_21 4 (dk_at dksX4_go_1 6 rfl rfl)
theorem dX4_go_31 : decode cX4_go 31 = .ok (.ifCond .eq 7, 3) := dk_153 0 7 (dk_at dksX4_go_1 8 rfl rfl)
theorem dX4_go_34 : decode cX4_go 34 = .ok (.iconst 1, 1) := dk_4 (dk_at dksX4_go_1 11 rfl rfl)
theorem dX4_go_35 : decode cX4_go 35 = .ok (.goto 4, 3) := dk_167 0 4 (dk_at dksX4_go_1 12 rfl rfl)
theorem dX4_go_38 : decode cX4_go 38 = .ok (.iconst 0, 1) := dk_3 (dk_at dksX4_go_1 15 rfl rfl)
theorem dX4_go_39 : decode cX4_go 39 = .ok (.ireturn, 1) := dk_172 (dk_at dksX4_go_1 16 rfl rfl)
abbrev cX4_act : ByteArray := prog_23_method_84_code
def yX4_act : MethodName := ⟨RX4, "act", "()V"⟩
def dkwX4_act_4 : List UInt8 := [42, 3, 181, 1, 229, 177]
abbrev dktX4_act_4 : List UInt8 := dkwX4_act_4 ++ []
def dkwX4_act_3 : List UInt8 := [96, 42, 180, 0, 124, 27, 46, 79, 132, 1, 1, 167, 255, 226, 42, 89, 180, 1, 226, 4, 96, 181, 1, 226]
abbrev dktX4_act_3 : List UInt8 := dkwX4_act_3 ++ dktX4_act_4
def dkwX4_act_2 : List UInt8 := [181, 1, 226, 3, 60, 27, 16, 123, 162, 0, 30, 42, 180, 0, 127, 17, 0, 128, 42, 180, 1, 226, 104, 27]
abbrev dktX4_act_2 : List UInt8 := dkwX4_act_2 ++ dktX4_act_3
def dkwX4_act_1 : List UInt8 := [180, 0, 127, 17, 0, 128, 27, 96, 46, 79, 132, 1, 1, 167, 255, 230, 42, 89, 180, 1, 226, 4, 100]
abbrev dktX4_act_1 : List UInt8 := dkwX4_act_1 ++ dktX4_act_2
def dkwX4_act_0 : List UInt8 := [42, 180, 1, 226, 16, 40, 160, 0, 44, 3, 60, 27, 17, 19, 128, 162, 0, 25, 42, 180, 0, 127, 27, 42]
abbrev dktX4_act_0 : List UInt8 := dkwX4_act_0 ++ dktX4_act_1
theorem dksX4_act_0 : cX4_act.data.toList.drop 0 = dktX4_act_0 := by decide +kernel
theorem dksX4_act_1 : cX4_act.data.toList.drop 24 = dktX4_act_1 := dk_seg dksX4_act_0 24 rfl rfl
theorem dksX4_act_2 : cX4_act.data.toList.drop 47 = dktX4_act_2 := dk_seg dksX4_act_1 23 rfl rfl
theorem dksX4_act_3 : cX4_act.data.toList.drop 71 = dktX4_act_3 := dk_seg dksX4_act_2 24 rfl rfl
theorem dksX4_act_4 : cX4_act.data.toList.drop 95 = dktX4_act_4 := dk_seg dksX4_act_3 24 rfl rfl
theorem dX4_act_0 : decode cX4_act 0 = .ok (.aload_n 0, 1) := dk_42 (dk_at dksX4_act_0 0 rfl rfl)
theorem dX4_act_1 : decode cX4_act 1 = .ok (.getfield 482, 3) := dk_180 1 226 (dk_at dksX4_act_0 1 rfl rfl)
theorem dX4_act_4 : decode cX4_act 4 = .ok (.bipush 40, 2) := dk_16 40 (dk_at dksX4_act_0 4 rfl rfl)
theorem dX4_act_6 : decode cX4_act 6 = .ok (.if_icmp .ne 44, 3) := dk_160 0 44 (dk_at dksX4_act_0 6 rfl rfl)
theorem dX4_act_9 : decode cX4_act 9 = .ok (.iconst 0, 1) := dk_3 (dk_at dksX4_act_0 9 rfl rfl)
theorem dX4_act_10 : decode cX4_act 10 = .ok (.istore_n 1, 1) := dk_60 (dk_at dksX4_act_0 10 rfl rfl)
theorem dX4_act_11 : decode cX4_act 11 = .ok (.iload_n 1, 1) := dk_27 (dk_at dksX4_act_0 11 rfl rfl)
theorem dX4_act_12 : decode cX4_act 12 = .ok (.sipush 4992, 3) := dk_17 19 128 (dk_at dksX4_act_0 12 rfl rfl)
theorem dX4_act_15 : decode cX4_act 15 = .ok (.if_icmp .ge 25, 3) := dk_162 0 25 (dk_at dksX4_act_0 15 rfl rfl)
theorem dX4_act_18 : decode cX4_act 18 = .ok (.aload_n 0, 1) := dk_42 (dk_at dksX4_act_0 18 rfl rfl)
theorem dX4_act_19 : decode cX4_act 19 = .ok (.getfield 127, 3) := dk_180 0 127 (dk_at dksX4_act_0 19 rfl rfl)
theorem dX4_act_22 : decode cX4_act 22 = .ok (.iload_n 1, 1) := dk_27 (dk_at dksX4_act_0 22 rfl rfl)
theorem dX4_act_23 : decode cX4_act 23 = .ok (.aload_n 0, 1) := dk_42 (dk_at dksX4_act_0 23 rfl rfl)
theorem dX4_act_24 : decode cX4_act 24 = .ok (.getfield 127, 3) := dk_180 0 127 (dk_at dksX4_act_1 0 rfl rfl)
theorem dX4_act_27 : decode cX4_act 27 = .ok (.sipush 128, 3) := dk_17 0 128 (dk_at dksX4_act_1 3 rfl rfl)
theorem dX4_act_30 : decode cX4_act 30 = .ok (.iload_n 1, 1) := dk_27 (dk_at dksX4_act_1 6 rfl rfl)
theorem dX4_act_31 : decode cX4_act 31 = .ok (.iadd, 1) := dk_96 (dk_at dksX4_act_1 7 rfl rfl)
theorem dX4_act_32 : decode cX4_act 32 = .ok (.iaload, 1) := dk_46 (dk_at dksX4_act_1 8 rfl rfl)
theorem dX4_act_33 : decode cX4_act 33 = .ok (.iastore, 1) := dk_79 (dk_at dksX4_act_1 9 rfl rfl)
theorem dX4_act_34 : decode cX4_act 34 = .ok (.iinc 1 1, 3) := dk_132 1 1 (dk_at dksX4_act_1 10 rfl rfl)
theorem dX4_act_37 : decode cX4_act 37 = .ok (.goto (-26), 3) := dk_167 255 230 (dk_at dksX4_act_1 13 rfl rfl)
theorem dX4_act_40 : decode cX4_act 40 = .ok (.aload_n 0, 1) := dk_42 (dk_at dksX4_act_1 16 rfl rfl)
theorem dX4_act_41 : decode cX4_act 41 = .ok (.dup, 1) := dk_89 (dk_at dksX4_act_1 17 rfl rfl)
theorem dX4_act_42 : decode cX4_act 42 = .ok (.getfield 482, 3) := dk_180 1 226 (dk_at dksX4_act_1 18 rfl rfl)
theorem dX4_act_45 : decode cX4_act 45 = .ok (.iconst 1, 1) := dk_4 (dk_at dksX4_act_1 21 rfl rfl)
theorem dX4_act_46 : decode cX4_act 46 = .ok (.isub, 1) := dk_100 (dk_at dksX4_act_1 22 rfl rfl)
theorem dX4_act_47 : decode cX4_act 47 = .ok (.putfield 482, 3) := dk_181 1 226 (dk_at dksX4_act_2 0 rfl rfl)
theorem dX4_act_50 : decode cX4_act 50 = .ok (.iconst 0, 1) := dk_3 (dk_at dksX4_act_2 3 rfl rfl)
theorem dX4_act_51 : decode cX4_act 51 = .ok (.istore_n 1, 1) := dk_60 (dk_at dksX4_act_2 4 rfl rfl)
theorem dX4_act_52 : decode cX4_act 52 = .ok (.iload_n 1, 1) := dk_27 (dk_at dksX4_act_2 5 rfl rfl)
theorem dX4_act_53 : decode cX4_act 53 = .ok (.bipush 123, 2) := dk_16 123 (dk_at dksX4_act_2 6 rfl rfl)
theorem dX4_act_55 : decode cX4_act 55 = .ok (.if_icmp .ge 30, 3) := dk_162 0 30 (dk_at dksX4_act_2 8 rfl rfl)
theorem dX4_act_58 : decode cX4_act 58 = .ok (.aload_n 0, 1) := dk_42 (dk_at dksX4_act_2 11 rfl rfl)
theorem dX4_act_59 : decode cX4_act 59 = .ok (.getfield 127, 3) := dk_180 0 127 (dk_at dksX4_act_2 12 rfl rfl)
theorem dX4_act_62 : decode cX4_act 62 = .ok (.sipush 128, 3) := dk_17 0 128 (dk_at dksX4_act_2 15 rfl rfl)
theorem dX4_act_65 : decode cX4_act 65 = .ok (.aload_n 0, 1) := dk_42 (dk_at dksX4_act_2 18 rfl rfl)
theorem dX4_act_66 : decode cX4_act 66 = .ok (.getfield 482, 3) := dk_180 1 226 (dk_at dksX4_act_2 19 rfl rfl)
theorem dX4_act_69 : decode cX4_act 69 = .ok (.imul, 1) := dk_104 (dk_at dksX4_act_2 22 rfl rfl)
theorem dX4_act_70 : decode cX4_act 70 = .ok (.iload_n 1, 1) := dk_27 (dk_at dksX4_act_2 23 rfl rfl)
theorem dX4_act_71 : decode cX4_act 71 = .ok (.iadd, 1) := dk_96 (dk_at dksX4_act_3 0 rfl rfl)
theorem dX4_act_72 : decode cX4_act 72 = .ok (.aload_n 0, 1) := dk_42 (dk_at dksX4_act_3 1 rfl rfl)
theorem dX4_act_73 : decode cX4_act 73 = .ok (.getfield 124, 3) := dk_180 0 124 (dk_at dksX4_act_3 2 rfl rfl)
theorem dX4_act_76 : decode cX4_act 76 = .ok (.iload_n 1, 1) := dk_27 (dk_at dksX4_act_3 5 rfl rfl)
theorem dX4_act_77 : decode cX4_act 77 = .ok (.iaload, 1) := dk_46 (dk_at dksX4_act_3 6 rfl rfl)
theorem dX4_act_78 : decode cX4_act 78 = .ok (.iastore, 1) := dk_79 (dk_at dksX4_act_3 7 rfl rfl)
theorem dX4_act_79 : decode cX4_act 79 = .ok (.iinc 1 1, 3) := dk_132 1 1 (dk_at dksX4_act_3 8 rfl rfl)
theorem dX4_act_82 : decode cX4_act 82 = .ok (.goto (-30), 3) := dk_167 255 226 (dk_at dksX4_act_3 11 rfl rfl)
theorem dX4_act_85 : decode cX4_act 85 = .ok (.aload_n 0, 1) := dk_42 (dk_at dksX4_act_3 14 rfl rfl)
theorem dX4_act_86 : decode cX4_act 86 = .ok (.dup, 1) := dk_89 (dk_at dksX4_act_3 15 rfl rfl)
theorem dX4_act_87 : decode cX4_act 87 = .ok (.getfield 482, 3) := dk_180 1 226 (dk_at dksX4_act_3 16 rfl rfl)
theorem dX4_act_90 : decode cX4_act 90 = .ok (.iconst 1, 1) := dk_4 (dk_at dksX4_act_3 19 rfl rfl)
theorem dX4_act_91 : decode cX4_act 91 = .ok (.iadd, 1) := dk_96 (dk_at dksX4_act_3 20 rfl rfl)
theorem dX4_act_92 : decode cX4_act 92 = .ok (.putfield 482, 3) := dk_181 1 226 (dk_at dksX4_act_3 21 rfl rfl)
theorem dX4_act_95 : decode cX4_act 95 = .ok (.aload_n 0, 1) := dk_42 (dk_at dksX4_act_4 0 rfl rfl)
theorem dX4_act_96 : decode cX4_act 96 = .ok (.iconst 0, 1) := dk_3 (dk_at dksX4_act_4 1 rfl rfl)
theorem dX4_act_97 : decode cX4_act 97 = .ok (.putfield 485, 3) := dk_181 1 229 (dk_at dksX4_act_4 2 rfl rfl)
theorem dX4_act_100 : decode cX4_act 100 = .ok (.return_, 1) := dk_177 (dk_at dksX4_act_4 5 rfl rfl)
abbrev cX4_tries : ByteArray := prog_23_method_73_code
def yX4_tries : MethodName := ⟨RX4, "tries", "(III)Z"⟩
def dkwX4_tries_6 : List UInt8 := [172]
abbrev dktX4_tries_6 : List UInt8 := dkwX4_tries_6 ++ []
def dkwX4_tries_5 : List UInt8 := [21, 5, 153, 0, 13, 42, 27, 28, 29, 182, 2, 29, 167, 0, 10, 42, 27, 28, 29, 182, 2, 33, 21, 5]
abbrev dktX4_tries_5 : List UInt8 := dkwX4_tries_5 ++ dktX4_tries_6
def dkwX4_tries_4 : List UInt8 := [153, 0, 7, 4, 167, 0, 4, 3, 96, 79, 42, 180, 0, 121, 21, 6, 5, 96, 92, 46, 21, 4, 96, 79]
abbrev dktX4_tries_4 : List UInt8 := dkwX4_tries_4 ++ dktX4_tries_5
def dkwX4_tries_3 : List UInt8 := [180, 0, 121, 21, 6, 92, 46, 4, 96, 79, 42, 180, 0, 121, 21, 6, 4, 96, 92, 46, 21, 5]
abbrev dktX4_tries_3 : List UInt8 := dkwX4_tries_3 ++ dktX4_tries_4
def dkwX4_tries_2 : List UInt8 := [162, 0, 7, 4, 167, 0, 4, 3, 54, 5, 16, 63, 16, 15, 27, 104, 96, 6, 29, 104, 96, 54, 6, 42]
abbrev dktX4_tries_2 : List UInt8 := dkwX4_tries_2 ++ dktX4_tries_3
def dkwX4_tries_1 : List UInt8 := [17, 0, 137, 104, 16, 71, 96, 17, 3, 232, 112, 79, 42, 180, 0, 121, 16, 62, 46, 16, 10, 108, 21, 4]
abbrev dktX4_tries_1 : List UInt8 := dkwX4_tries_1 ++ dktX4_tries_2
def dkwX4_tries_0 : List UInt8 := [42, 27, 28, 29, 182, 2, 26, 54, 4, 42, 180, 0, 121, 16, 62, 42, 180, 0, 121, 16, 62, 46]
abbrev dktX4_tries_0 : List UInt8 := dkwX4_tries_0 ++ dktX4_tries_1
theorem dksX4_tries_0 : cX4_tries.data.toList.drop 0 = dktX4_tries_0 := by decide +kernel
theorem dksX4_tries_1 : cX4_tries.data.toList.drop 22 = dktX4_tries_1 := dk_seg dksX4_tries_0 22 rfl rfl
theorem dksX4_tries_2 : cX4_tries.data.toList.drop 46 = dktX4_tries_2 := dk_seg dksX4_tries_1 24 rfl rfl
theorem dksX4_tries_3 : cX4_tries.data.toList.drop 70 = dktX4_tries_3 := dk_seg dksX4_tries_2 24 rfl rfl
theorem dksX4_tries_4 : cX4_tries.data.toList.drop 92 = dktX4_tries_4 := dk_seg dksX4_tries_3 22 rfl rfl
theorem dksX4_tries_5 : cX4_tries.data.toList.drop 116 = dktX4_tries_5 := dk_seg dksX4_tries_4 24 rfl rfl
theorem dksX4_tries_6 : cX4_tries.data.toList.drop 140 = dktX4_tries_6 := dk_seg dksX4_tries_5 24 rfl rfl
theorem dX4_tries_0 : decode cX4_tries 0 = .ok (.aload_n 0, 1) := dk_42 (dk_at dksX4_tries_0 0 rfl rfl)
theorem dX4_tries_1 : decode cX4_tries 1 = .ok (.iload_n 1, 1) := dk_27 (dk_at dksX4_tries_0 1 rfl rfl)
theorem dX4_tries_2 : decode cX4_tries 2 = .ok (.iload_n 2, 1) := dk_28 (dk_at dksX4_tries_0 2 rfl rfl)
theorem dX4_tries_3 : decode cX4_tries 3 = .ok (.iload_n 3, 1) := dk_29 (dk_at dksX4_tries_0 3 rfl rfl)
theorem dX4_tries_4 : decode cX4_tries 4 = .ok (.invokevirtual 538, 3) := dk_182 2 26 (dk_at dksX4_tries_0 4 rfl rfl)
theorem dX4_tries_7 : decode cX4_tries 7 = .ok (.istore 4, 2) := dk_54 4 (dk_at dksX4_tries_0 7 rfl rfl)
theorem dX4_tries_9 : decode cX4_tries 9 = .ok (.aload_n 0, 1) := dk_42 (dk_at dksX4_tries_0 9 rfl rfl)
theorem dX4_tries_10 : decode cX4_tries 10 = .ok (.getfield 121, 3) := dk_180 0 121 (dk_at dksX4_tries_0 10 rfl rfl)
theorem dX4_tries_13 : decode cX4_tries 13 = .ok (.bipush 62, 2) := dk_16 62 (dk_at dksX4_tries_0 13 rfl rfl)
theorem dX4_tries_15 : decode cX4_tries 15 = .ok (.aload_n 0, 1) := dk_42 (dk_at dksX4_tries_0 15 rfl rfl)
theorem dX4_tries_16 : decode cX4_tries 16 = .ok (.getfield 121, 3) := dk_180 0 121 (dk_at dksX4_tries_0 16 rfl rfl)
theorem dX4_tries_19 : decode cX4_tries 19 = .ok (.bipush 62, 2) := dk_16 62 (dk_at dksX4_tries_0 19 rfl rfl)
theorem dX4_tries_21 : decode cX4_tries 21 = .ok (.iaload, 1) := dk_46 (dk_at dksX4_tries_0 21 rfl rfl)
theorem dX4_tries_22 : decode cX4_tries 22 = .ok (.sipush 137, 3) := dk_17 0 137 (dk_at dksX4_tries_1 0 rfl rfl)
theorem dX4_tries_25 : decode cX4_tries 25 = .ok (.imul, 1) := dk_104 (dk_at dksX4_tries_1 3 rfl rfl)
theorem dX4_tries_26 : decode cX4_tries 26 = .ok (.bipush 71, 2) := dk_16 71 (dk_at dksX4_tries_1 4 rfl rfl)
theorem dX4_tries_28 : decode cX4_tries 28 = .ok (.iadd, 1) := dk_96 (dk_at dksX4_tries_1 6 rfl rfl)
theorem dX4_tries_29 : decode cX4_tries 29 = .ok (.sipush 1000, 3) := dk_17 3 232 (dk_at dksX4_tries_1 7 rfl rfl)
theorem dX4_tries_32 : decode cX4_tries 32 = .ok (.irem, 1) := dk_112 (dk_at dksX4_tries_1 10 rfl rfl)
theorem dX4_tries_33 : decode cX4_tries 33 = .ok (.iastore, 1) := dk_79 (dk_at dksX4_tries_1 11 rfl rfl)
theorem dX4_tries_34 : decode cX4_tries 34 = .ok (.aload_n 0, 1) := dk_42 (dk_at dksX4_tries_1 12 rfl rfl)
theorem dX4_tries_35 : decode cX4_tries 35 = .ok (.getfield 121, 3) := dk_180 0 121 (dk_at dksX4_tries_1 13 rfl rfl)
theorem dX4_tries_38 : decode cX4_tries 38 = .ok (.bipush 62, 2) := dk_16 62 (dk_at dksX4_tries_1 16 rfl rfl)
theorem dX4_tries_40 : decode cX4_tries 40 = .ok (.iaload, 1) := dk_46 (dk_at dksX4_tries_1 18 rfl rfl)
theorem dX4_tries_41 : decode cX4_tries 41 = .ok (.bipush 10, 2) := dk_16 10 (dk_at dksX4_tries_1 19 rfl rfl)
theorem dX4_tries_43 : decode cX4_tries 43 = .ok (.idiv, 1) := dk_108 (dk_at dksX4_tries_1 21 rfl rfl)
theorem dX4_tries_44 : decode cX4_tries 44 = .ok (.iload 4, 2) := dk_21 4 (dk_at dksX4_tries_1 22 rfl rfl)
theorem dX4_tries_46 : decode cX4_tries 46 = .ok (.if_icmp .ge 7, 3) := dk_162 0 7 (dk_at dksX4_tries_2 0 rfl rfl)
theorem dX4_tries_49 : decode cX4_tries 49 = .ok (.iconst 1, 1) := dk_4 (dk_at dksX4_tries_2 3 rfl rfl)
theorem dX4_tries_50 : decode cX4_tries 50 = .ok (.goto 4, 3) := dk_167 0 4 (dk_at dksX4_tries_2 4 rfl rfl)
theorem dX4_tries_53 : decode cX4_tries 53 = .ok (.iconst 0, 1) := dk_3 (dk_at dksX4_tries_2 7 rfl rfl)
theorem dX4_tries_54 : decode cX4_tries 54 = .ok (.istore 5, 2) := dk_54 5 (dk_at dksX4_tries_2 8 rfl rfl)
theorem dX4_tries_56 : decode cX4_tries 56 = .ok (.bipush 63, 2) := dk_16 63 (dk_at dksX4_tries_2 10 rfl rfl)
theorem dX4_tries_58 : decode cX4_tries 58 = .ok (.bipush 15, 2) := dk_16 15 (dk_at dksX4_tries_2 12 rfl rfl)
theorem dX4_tries_60 : decode cX4_tries 60 = .ok (.iload_n 1, 1) := dk_27 (dk_at dksX4_tries_2 14 rfl rfl)
theorem dX4_tries_61 : decode cX4_tries 61 = .ok (.imul, 1) := dk_104 (dk_at dksX4_tries_2 15 rfl rfl)
theorem dX4_tries_62 : decode cX4_tries 62 = .ok (.iadd, 1) := dk_96 (dk_at dksX4_tries_2 16 rfl rfl)
theorem dX4_tries_63 : decode cX4_tries 63 = .ok (.iconst 3, 1) := dk_6 (dk_at dksX4_tries_2 17 rfl rfl)
theorem dX4_tries_64 : decode cX4_tries 64 = .ok (.iload_n 3, 1) := dk_29 (dk_at dksX4_tries_2 18 rfl rfl)
theorem dX4_tries_65 : decode cX4_tries 65 = .ok (.imul, 1) := dk_104 (dk_at dksX4_tries_2 19 rfl rfl)
theorem dX4_tries_66 : decode cX4_tries 66 = .ok (.iadd, 1) := dk_96 (dk_at dksX4_tries_2 20 rfl rfl)
theorem dX4_tries_67 : decode cX4_tries 67 = .ok (.istore 6, 2) := dk_54 6 (dk_at dksX4_tries_2 21 rfl rfl)
theorem dX4_tries_69 : decode cX4_tries 69 = .ok (.aload_n 0, 1) := dk_42 (dk_at dksX4_tries_2 23 rfl rfl)
theorem dX4_tries_70 : decode cX4_tries 70 = .ok (.getfield 121, 3) := dk_180 0 121 (dk_at dksX4_tries_3 0 rfl rfl)
theorem dX4_tries_73 : decode cX4_tries 73 = .ok (.iload 6, 2) := dk_21 6 (dk_at dksX4_tries_3 3 rfl rfl)
theorem dX4_tries_75 : decode cX4_tries 75 = .ok (.dup2, 1) := dk_92 (dk_at dksX4_tries_3 5 rfl rfl)
theorem dX4_tries_76 : decode cX4_tries 76 = .ok (.iaload, 1) := dk_46 (dk_at dksX4_tries_3 6 rfl rfl)
theorem dX4_tries_77 : decode cX4_tries 77 = .ok (.iconst 1, 1) := dk_4 (dk_at dksX4_tries_3 7 rfl rfl)
theorem dX4_tries_78 : decode cX4_tries 78 = .ok (.iadd, 1) := dk_96 (dk_at dksX4_tries_3 8 rfl rfl)
theorem dX4_tries_79 : decode cX4_tries 79 = .ok (.iastore, 1) := dk_79 (dk_at dksX4_tries_3 9 rfl rfl)
theorem dX4_tries_80 : decode cX4_tries 80 = .ok (.aload_n 0, 1) := dk_42 (dk_at dksX4_tries_3 10 rfl rfl)
theorem dX4_tries_81 : decode cX4_tries 81 = .ok (.getfield 121, 3) := dk_180 0 121 (dk_at dksX4_tries_3 11 rfl rfl)
theorem dX4_tries_84 : decode cX4_tries 84 = .ok (.iload 6, 2) := dk_21 6 (dk_at dksX4_tries_3 14 rfl rfl)
theorem dX4_tries_86 : decode cX4_tries 86 = .ok (.iconst 1, 1) := dk_4 (dk_at dksX4_tries_3 16 rfl rfl)
theorem dX4_tries_87 : decode cX4_tries 87 = .ok (.iadd, 1) := dk_96 (dk_at dksX4_tries_3 17 rfl rfl)
theorem dX4_tries_88 : decode cX4_tries 88 = .ok (.dup2, 1) := dk_92 (dk_at dksX4_tries_3 18 rfl rfl)
theorem dX4_tries_89 : decode cX4_tries 89 = .ok (.iaload, 1) := dk_46 (dk_at dksX4_tries_3 19 rfl rfl)
theorem dX4_tries_90 : decode cX4_tries 90 = .ok (.iload 5, 2) := dk_21 5 (dk_at dksX4_tries_3 20 rfl rfl)
theorem dX4_tries_92 : decode cX4_tries 92 = .ok (.ifCond .eq 7, 3) := dk_153 0 7 (dk_at dksX4_tries_4 0 rfl rfl)
theorem dX4_tries_95 : decode cX4_tries 95 = .ok (.iconst 1, 1) := dk_4 (dk_at dksX4_tries_4 3 rfl rfl)
theorem dX4_tries_96 : decode cX4_tries 96 = .ok (.goto 4, 3) := dk_167 0 4 (dk_at dksX4_tries_4 4 rfl rfl)
theorem dX4_tries_99 : decode cX4_tries 99 = .ok (.iconst 0, 1) := dk_3 (dk_at dksX4_tries_4 7 rfl rfl)
theorem dX4_tries_100 : decode cX4_tries 100 = .ok (.iadd, 1) := dk_96 (dk_at dksX4_tries_4 8 rfl rfl)
theorem dX4_tries_101 : decode cX4_tries 101 = .ok (.iastore, 1) := dk_79 (dk_at dksX4_tries_4 9 rfl rfl)
theorem dX4_tries_102 : decode cX4_tries 102 = .ok (.aload_n 0, 1) := dk_42 (dk_at dksX4_tries_4 10 rfl rfl)
theorem dX4_tries_103 : decode cX4_tries 103 = .ok (.getfield 121, 3) := dk_180 0 121 (dk_at dksX4_tries_4 11 rfl rfl)
theorem dX4_tries_106 : decode cX4_tries 106 = .ok (.iload 6, 2) := dk_21 6 (dk_at dksX4_tries_4 14 rfl rfl)
theorem dX4_tries_108 : decode cX4_tries 108 = .ok (.iconst 2, 1) := dk_5 (dk_at dksX4_tries_4 16 rfl rfl)
theorem dX4_tries_109 : decode cX4_tries 109 = .ok (.iadd, 1) := dk_96 (dk_at dksX4_tries_4 17 rfl rfl)
theorem dX4_tries_110 : decode cX4_tries 110 = .ok (.dup2, 1) := dk_92 (dk_at dksX4_tries_4 18 rfl rfl)
theorem dX4_tries_111 : decode cX4_tries 111 = .ok (.iaload, 1) := dk_46 (dk_at dksX4_tries_4 19 rfl rfl)
theorem dX4_tries_112 : decode cX4_tries 112 = .ok (.iload 4, 2) := dk_21 4 (dk_at dksX4_tries_4 20 rfl rfl)
theorem dX4_tries_114 : decode cX4_tries 114 = .ok (.iadd, 1) := dk_96 (dk_at dksX4_tries_4 22 rfl rfl)
theorem dX4_tries_115 : decode cX4_tries 115 = .ok (.iastore, 1) := dk_79 (dk_at dksX4_tries_4 23 rfl rfl)
theorem dX4_tries_116 : decode cX4_tries 116 = .ok (.iload 5, 2) := dk_21 5 (dk_at dksX4_tries_5 0 rfl rfl)
theorem dX4_tries_118 : decode cX4_tries 118 = .ok (.ifCond .eq 13, 3) := dk_153 0 13 (dk_at dksX4_tries_5 2 rfl rfl)
theorem dX4_tries_121 : decode cX4_tries 121 = .ok (.aload_n 0, 1) := dk_42 (dk_at dksX4_tries_5 5 rfl rfl)
theorem dX4_tries_122 : decode cX4_tries 122 = .ok (.iload_n 1, 1) := dk_27 (dk_at dksX4_tries_5 6 rfl rfl)
theorem dX4_tries_123 : decode cX4_tries 123 = .ok (.iload_n 2, 1) := dk_28 (dk_at dksX4_tries_5 7 rfl rfl)
theorem dX4_tries_124 : decode cX4_tries 124 = .ok (.iload_n 3, 1) := dk_29 (dk_at dksX4_tries_5 8 rfl rfl)
theorem dX4_tries_125 : decode cX4_tries 125 = .ok (.invokevirtual 541, 3) := dk_182 2 29 (dk_at dksX4_tries_5 9 rfl rfl)
theorem dX4_tries_128 : decode cX4_tries 128 = .ok (.goto 10, 3) := dk_167 0 10 (dk_at dksX4_tries_5 12 rfl rfl)
theorem dX4_tries_131 : decode cX4_tries 131 = .ok (.aload_n 0, 1) := dk_42 (dk_at dksX4_tries_5 15 rfl rfl)
theorem dX4_tries_132 : decode cX4_tries 132 = .ok (.iload_n 1, 1) := dk_27 (dk_at dksX4_tries_5 16 rfl rfl)
theorem dX4_tries_133 : decode cX4_tries 133 = .ok (.iload_n 2, 1) := dk_28 (dk_at dksX4_tries_5 17 rfl rfl)
theorem dX4_tries_134 : decode cX4_tries 134 = .ok (.iload_n 3, 1) := dk_29 (dk_at dksX4_tries_5 18 rfl rfl)
theorem dX4_tries_135 : decode cX4_tries 135 = .ok (.invokevirtual 545, 3) := dk_182 2 33 (dk_at dksX4_tries_5 19 rfl rfl)
theorem dX4_tries_138 : decode cX4_tries 138 = .ok (.iload 5, 2) := dk_21 5 (dk_at dksX4_tries_5 22 rfl rfl)
theorem dX4_tries_140 : decode cX4_tries 140 = .ok (.ireturn, 1) := dk_172 (dk_at dksX4_tries_6 0 rfl rfl)
abbrev cX4_get : ByteArray := prog_23_method_71_code
def yX4_get : MethodName := ⟨RX4, "get", "(III)V"⟩
def dkwX4_get_1 : List UInt8 := [27, 104, 96, 92, 46, 4, 96, 79, 177]
abbrev dktX4_get_1 : List UInt8 := dkwX4_get_1 ++ []
def dkwX4_get_0 : List UInt8 := [42, 27, 29, 182, 2, 20, 42, 180, 0, 121, 8, 28, 104, 5, 96, 27, 79, 42, 180, 0, 121, 16, 51, 6]
abbrev dktX4_get_0 : List UInt8 := dkwX4_get_0 ++ dktX4_get_1
theorem dksX4_get_0 : cX4_get.data.toList.drop 0 = dktX4_get_0 := by decide +kernel
theorem dksX4_get_1 : cX4_get.data.toList.drop 24 = dktX4_get_1 := dk_seg dksX4_get_0 24 rfl rfl
theorem dX4_get_0 : decode cX4_get 0 = .ok (.aload_n 0, 1) := dk_42 (dk_at dksX4_get_0 0 rfl rfl)
theorem dX4_get_1 : decode cX4_get 1 = .ok (.iload_n 1, 1) := dk_27 (dk_at dksX4_get_0 1 rfl rfl)
theorem dX4_get_2 : decode cX4_get 2 = .ok (.iload_n 3, 1) := dk_29 (dk_at dksX4_get_0 2 rfl rfl)
theorem dX4_get_3 : decode cX4_get 3 = .ok (.invokevirtual 532, 3) := dk_182 2 20 (dk_at dksX4_get_0 3 rfl rfl)
theorem dX4_get_6 : decode cX4_get 6 = .ok (.aload_n 0, 1) := dk_42 (dk_at dksX4_get_0 6 rfl rfl)
theorem dX4_get_7 : decode cX4_get 7 = .ok (.getfield 121, 3) := dk_180 0 121 (dk_at dksX4_get_0 7 rfl rfl)
theorem dX4_get_10 : decode cX4_get 10 = .ok (.iconst 5, 1) := dk_8 (dk_at dksX4_get_0 10 rfl rfl)
theorem dX4_get_11 : decode cX4_get 11 = .ok (.iload_n 2, 1) := dk_28 (dk_at dksX4_get_0 11 rfl rfl)
theorem dX4_get_12 : decode cX4_get 12 = .ok (.imul, 1) := dk_104 (dk_at dksX4_get_0 12 rfl rfl)
theorem dX4_get_13 : decode cX4_get 13 = .ok (.iconst 2, 1) := dk_5 (dk_at dksX4_get_0 13 rfl rfl)
theorem dX4_get_14 : decode cX4_get 14 = .ok (.iadd, 1) := dk_96 (dk_at dksX4_get_0 14 rfl rfl)
theorem dX4_get_15 : decode cX4_get 15 = .ok (.iload_n 1, 1) := dk_27 (dk_at dksX4_get_0 15 rfl rfl)
theorem dX4_get_16 : decode cX4_get 16 = .ok (.iastore, 1) := dk_79 (dk_at dksX4_get_0 16 rfl rfl)
theorem dX4_get_17 : decode cX4_get 17 = .ok (.aload_n 0, 1) := dk_42 (dk_at dksX4_get_0 17 rfl rfl)
theorem dX4_get_18 : decode cX4_get 18 = .ok (.getfield 121, 3) := dk_180 0 121 (dk_at dksX4_get_0 18 rfl rfl)
theorem dX4_get_21 : decode cX4_get 21 = .ok (.bipush 51, 2) := dk_16 51 (dk_at dksX4_get_0 21 rfl rfl)
theorem dX4_get_23 : decode cX4_get 23 = .ok (.iconst 3, 1) := dk_6 (dk_at dksX4_get_0 23 rfl rfl)
theorem dX4_get_24 : decode cX4_get 24 = .ok (.iload_n 1, 1) := dk_27 (dk_at dksX4_get_1 0 rfl rfl)
theorem dX4_get_25 : decode cX4_get 25 = .ok (.imul, 1) := dk_104 (dk_at dksX4_get_1 1 rfl rfl)
theorem dX4_get_26 : decode cX4_get 26 = .ok (.iadd, 1) := dk_96 (dk_at dksX4_get_1 2 rfl rfl)
theorem dX4_get_27 : decode cX4_get 27 = .ok (.dup2, 1) := dk_92 (dk_at dksX4_get_1 3 rfl rfl)
theorem dX4_get_28 : decode cX4_get 28 = .ok (.iaload, 1) := dk_46 (dk_at dksX4_get_1 4 rfl rfl)
theorem dX4_get_29 : decode cX4_get 29 = .ok (.iconst 1, 1) := dk_4 (dk_at dksX4_get_1 5 rfl rfl)
theorem dX4_get_30 : decode cX4_get 30 = .ok (.iadd, 1) := dk_96 (dk_at dksX4_get_1 6 rfl rfl)
theorem dX4_get_31 : decode cX4_get 31 = .ok (.iastore, 1) := dk_79 (dk_at dksX4_get_1 7 rfl rfl)
theorem dX4_get_32 : decode cX4_get 32 = .ok (.return_, 1) := dk_177 (dk_at dksX4_get_1 8 rfl rfl)
abbrev cX4_spend : ByteArray := prog_23_method_70_code
def yX4_spend : MethodName := ⟨RX4, "spend", "(II)V"⟩
def dkwX4_spend_1 : List UInt8 := [6, 27, 104, 96, 92, 46, 28, 184, 2, 17, 96, 79, 177]
abbrev dktX4_spend_1 : List UInt8 := dkwX4_spend_1 ++ []
def dkwX4_spend_0 : List UInt8 := [42, 180, 0, 121, 16, 50, 6, 27, 104, 96, 92, 46, 28, 184, 1, 248, 100, 79, 42, 180, 0, 121, 16, 52]
abbrev dktX4_spend_0 : List UInt8 := dkwX4_spend_0 ++ dktX4_spend_1
theorem dksX4_spend_0 : cX4_spend.data.toList.drop 0 = dktX4_spend_0 := by decide +kernel
theorem dksX4_spend_1 : cX4_spend.data.toList.drop 24 = dktX4_spend_1 := dk_seg dksX4_spend_0 24 rfl rfl
theorem dX4_spend_0 : decode cX4_spend 0 = .ok (.aload_n 0, 1) := dk_42 (dk_at dksX4_spend_0 0 rfl rfl)
theorem dX4_spend_1 : decode cX4_spend 1 = .ok (.getfield 121, 3) := dk_180 0 121 (dk_at dksX4_spend_0 1 rfl rfl)
theorem dX4_spend_4 : decode cX4_spend 4 = .ok (.bipush 50, 2) := dk_16 50 (dk_at dksX4_spend_0 4 rfl rfl)
theorem dX4_spend_6 : decode cX4_spend 6 = .ok (.iconst 3, 1) := dk_6 (dk_at dksX4_spend_0 6 rfl rfl)
theorem dX4_spend_7 : decode cX4_spend 7 = .ok (.iload_n 1, 1) := dk_27 (dk_at dksX4_spend_0 7 rfl rfl)
theorem dX4_spend_8 : decode cX4_spend 8 = .ok (.imul, 1) := dk_104 (dk_at dksX4_spend_0 8 rfl rfl)
theorem dX4_spend_9 : decode cX4_spend 9 = .ok (.iadd, 1) := dk_96 (dk_at dksX4_spend_0 9 rfl rfl)
theorem dX4_spend_10 : decode cX4_spend 10 = .ok (.dup2, 1) := dk_92 (dk_at dksX4_spend_0 10 rfl rfl)
theorem dX4_spend_11 : decode cX4_spend 11 = .ok (.iaload, 1) := dk_46 (dk_at dksX4_spend_0 11 rfl rfl)
theorem dX4_spend_12 : decode cX4_spend 12 = .ok (.iload_n 2, 1) := dk_28 (dk_at dksX4_spend_0 12 rfl rfl)
theorem dX4_spend_13 : decode cX4_spend 13 = .ok (.invokestatic 504, 3) := dk_184 1 248 (dk_at dksX4_spend_0 13 rfl rfl)
theorem dX4_spend_16 : decode cX4_spend 16 = .ok (.isub, 1) := dk_100 (dk_at dksX4_spend_0 16 rfl rfl)
theorem dX4_spend_17 : decode cX4_spend 17 = .ok (.iastore, 1) := dk_79 (dk_at dksX4_spend_0 17 rfl rfl)
theorem dX4_spend_18 : decode cX4_spend 18 = .ok (.aload_n 0, 1) := dk_42 (dk_at dksX4_spend_0 18 rfl rfl)
theorem dX4_spend_19 : decode cX4_spend 19 = .ok (.getfield 121, 3) := dk_180 0 121 (dk_at dksX4_spend_0 19 rfl rfl)
theorem dX4_spend_22 : decode cX4_spend 22 = .ok (.bipush 52, 2) := dk_16 52 (dk_at dksX4_spend_0 22 rfl rfl)
theorem dX4_spend_24 : decode cX4_spend 24 = .ok (.iconst 3, 1) := dk_6 (dk_at dksX4_spend_1 0 rfl rfl)
theorem dX4_spend_25 : decode cX4_spend 25 = .ok (.iload_n 1, 1) := dk_27 (dk_at dksX4_spend_1 1 rfl rfl)
theorem dX4_spend_26 : decode cX4_spend 26 = .ok (.imul, 1) := dk_104 (dk_at dksX4_spend_1 2 rfl rfl)
theorem dX4_spend_27 : decode cX4_spend 27 = .ok (.iadd, 1) := dk_96 (dk_at dksX4_spend_1 3 rfl rfl)
theorem dX4_spend_28 : decode cX4_spend 28 = .ok (.dup2, 1) := dk_92 (dk_at dksX4_spend_1 4 rfl rfl)
theorem dX4_spend_29 : decode cX4_spend 29 = .ok (.iaload, 1) := dk_46 (dk_at dksX4_spend_1 5 rfl rfl)
theorem dX4_spend_30 : decode cX4_spend 30 = .ok (.iload_n 2, 1) := dk_28 (dk_at dksX4_spend_1 6 rfl rfl)
theorem dX4_spend_31 : decode cX4_spend 31 = .ok (.invokestatic 529, 3) := dk_184 2 17 (dk_at dksX4_spend_1 7 rfl rfl)
theorem dX4_spend_34 : decode cX4_spend 34 = .ok (.iadd, 1) := dk_96 (dk_at dksX4_spend_1 10 rfl rfl)
theorem dX4_spend_35 : decode cX4_spend 35 = .ok (.iastore, 1) := dk_79 (dk_at dksX4_spend_1 11 rfl rfl)
theorem dX4_spend_36 : decode cX4_spend 36 = .ok (.return_, 1) := dk_177 (dk_at dksX4_spend_1 12 rfl rfl)
abbrev cX4_seconds : ByteArray := prog_23_method_63_code
def yX4_seconds : MethodName := ⟨RX4, "seconds", "(I)I"⟩
def dkwX4_seconds_0 : List UInt8 := [26, 5, 159, 0, 8, 26, 6, 160, 0, 7, 26, 167, 0, 4, 4, 172]
abbrev dktX4_seconds_0 : List UInt8 := dkwX4_seconds_0 ++ []
theorem dksX4_seconds_0 : cX4_seconds.data.toList.drop 0 = dktX4_seconds_0 := by decide +kernel
theorem dX4_seconds_0 : decode cX4_seconds 0 = .ok (.iload_n 0, 1) := dk_26 (dk_at dksX4_seconds_0 0 rfl rfl)
theorem dX4_seconds_1 : decode cX4_seconds 1 = .ok (.iconst 2, 1) := dk_5 (dk_at dksX4_seconds_0 1 rfl rfl)
theorem dX4_seconds_2 : decode cX4_seconds 2 = .ok (.if_icmp .eq 8, 3) := dk_159 0 8 (dk_at dksX4_seconds_0 2 rfl rfl)
theorem dX4_seconds_5 : decode cX4_seconds 5 = .ok (.iload_n 0, 1) := dk_26 (dk_at dksX4_seconds_0 5 rfl rfl)
theorem dX4_seconds_6 : decode cX4_seconds 6 = .ok (.iconst 3, 1) := dk_6 (dk_at dksX4_seconds_0 6 rfl rfl)
theorem dX4_seconds_7 : decode cX4_seconds 7 = .ok (.if_icmp .ne 7, 3) := dk_160 0 7 (dk_at dksX4_seconds_0 7 rfl rfl)
theorem dX4_seconds_10 : decode cX4_seconds 10 = .ok (.iload_n 0, 1) := dk_26 (dk_at dksX4_seconds_0 10 rfl rfl)
theorem dX4_seconds_11 : decode cX4_seconds 11 = .ok (.goto 4, 3) := dk_167 0 4 (dk_at dksX4_seconds_0 11 rfl rfl)
theorem dX4_seconds_14 : decode cX4_seconds 14 = .ok (.iconst 1, 1) := dk_4 (dk_at dksX4_seconds_0 14 rfl rfl)
theorem dX4_seconds_15 : decode cX4_seconds 15 = .ok (.ireturn, 1) := dk_172 (dk_at dksX4_seconds_0 15 rfl rfl)
abbrev cX4_miss : ByteArray := prog_23_method_72_code
def yX4_miss : MethodName := ⟨RX4, "miss", "(III)V"⟩
def dkwX4_miss_4 : List UInt8 := [162, 0, 17, 42, 28, 182, 1, 245, 153, 0, 9, 42, 27, 28, 182, 2, 23, 177]
abbrev dktX4_miss_4 : List UInt8 := dkwX4_miss_4 ++ []
def dkwX4_miss_3 : List UInt8 := [180, 0, 121, 8, 28, 104, 7, 96, 3, 79, 42, 180, 0, 121, 8, 28, 104, 5, 96, 16, 9, 79, 29, 5]
abbrev dktX4_miss_3 : List UInt8 := dkwX4_miss_3 ++ dktX4_miss_4
def dkwX4_miss_2 : List UInt8 := [42, 180, 0, 109, 27, 46, 4, 96, 100, 79, 42, 180, 0, 121, 8, 28, 104, 7, 96, 46, 157, 0, 26, 42]
abbrev dktX4_miss_2 : List UInt8 := dkwX4_miss_2 ++ dktX4_miss_3
def dkwX4_miss_1 : List UInt8 := [42, 180, 0, 85, 28, 46, 42, 180, 0, 118, 161, 0, 24, 42, 180, 0, 121, 8, 28, 104, 7, 96, 92, 46]
abbrev dktX4_miss_1 : List UInt8 := dkwX4_miss_1 ++ dktX4_miss_2
def dkwX4_miss_0 : List UInt8 := [42, 27, 29, 182, 2, 20, 42, 180, 0, 121, 8, 28, 104, 6, 96, 92, 46, 4, 96, 79, 29, 154, 0, 37]
abbrev dktX4_miss_0 : List UInt8 := dkwX4_miss_0 ++ dktX4_miss_1
theorem dksX4_miss_0 : cX4_miss.data.toList.drop 0 = dktX4_miss_0 := by decide +kernel
theorem dksX4_miss_1 : cX4_miss.data.toList.drop 24 = dktX4_miss_1 := dk_seg dksX4_miss_0 24 rfl rfl
theorem dksX4_miss_2 : cX4_miss.data.toList.drop 48 = dktX4_miss_2 := dk_seg dksX4_miss_1 24 rfl rfl
theorem dksX4_miss_3 : cX4_miss.data.toList.drop 72 = dktX4_miss_3 := dk_seg dksX4_miss_2 24 rfl rfl
theorem dksX4_miss_4 : cX4_miss.data.toList.drop 96 = dktX4_miss_4 := dk_seg dksX4_miss_3 24 rfl rfl
theorem dX4_miss_0 : decode cX4_miss 0 = .ok (.aload_n 0, 1) := dk_42 (dk_at dksX4_miss_0 0 rfl rfl)
theorem dX4_miss_1 : decode cX4_miss 1 = .ok (.iload_n 1, 1) := dk_27 (dk_at dksX4_miss_0 1 rfl rfl)
theorem dX4_miss_2 : decode cX4_miss 2 = .ok (.iload_n 3, 1) := dk_29 (dk_at dksX4_miss_0 2 rfl rfl)
theorem dX4_miss_3 : decode cX4_miss 3 = .ok (.invokevirtual 532, 3) := dk_182 2 20 (dk_at dksX4_miss_0 3 rfl rfl)
theorem dX4_miss_6 : decode cX4_miss 6 = .ok (.aload_n 0, 1) := dk_42 (dk_at dksX4_miss_0 6 rfl rfl)
theorem dX4_miss_7 : decode cX4_miss 7 = .ok (.getfield 121, 3) := dk_180 0 121 (dk_at dksX4_miss_0 7 rfl rfl)
theorem dX4_miss_10 : decode cX4_miss 10 = .ok (.iconst 5, 1) := dk_8 (dk_at dksX4_miss_0 10 rfl rfl)
theorem dX4_miss_11 : decode cX4_miss 11 = .ok (.iload_n 2, 1) := dk_28 (dk_at dksX4_miss_0 11 rfl rfl)
theorem dX4_miss_12 : decode cX4_miss 12 = .ok (.imul, 1) := dk_104 (dk_at dksX4_miss_0 12 rfl rfl)
theorem dX4_miss_13 : decode cX4_miss 13 = .ok (.iconst 3, 1) := dk_6 (dk_at dksX4_miss_0 13 rfl rfl)
theorem dX4_miss_14 : decode cX4_miss 14 = .ok (.iadd, 1) := dk_96 (dk_at dksX4_miss_0 14 rfl rfl)
theorem dX4_miss_15 : decode cX4_miss 15 = .ok (.dup2, 1) := dk_92 (dk_at dksX4_miss_0 15 rfl rfl)
theorem dX4_miss_16 : decode cX4_miss 16 = .ok (.iaload, 1) := dk_46 (dk_at dksX4_miss_0 16 rfl rfl)
theorem dX4_miss_17 : decode cX4_miss 17 = .ok (.iconst 1, 1) := dk_4 (dk_at dksX4_miss_0 17 rfl rfl)
theorem dX4_miss_18 : decode cX4_miss 18 = .ok (.iadd, 1) := dk_96 (dk_at dksX4_miss_0 18 rfl rfl)
theorem dX4_miss_19 : decode cX4_miss 19 = .ok (.iastore, 1) := dk_79 (dk_at dksX4_miss_0 19 rfl rfl)
theorem dX4_miss_20 : decode cX4_miss 20 = .ok (.iload_n 3, 1) := dk_29 (dk_at dksX4_miss_0 20 rfl rfl)
theorem dX4_miss_21 : decode cX4_miss 21 = .ok (.ifCond .ne 37, 3) := dk_154 0 37 (dk_at dksX4_miss_0 21 rfl rfl)
theorem dX4_miss_24 : decode cX4_miss 24 = .ok (.aload_n 0, 1) := dk_42 (dk_at dksX4_miss_1 0 rfl rfl)
theorem dX4_miss_25 : decode cX4_miss 25 = .ok (.getfield 85, 3) := dk_180 0 85 (dk_at dksX4_miss_1 1 rfl rfl)
theorem dX4_miss_28 : decode cX4_miss 28 = .ok (.iload_n 2, 1) := dk_28 (dk_at dksX4_miss_1 4 rfl rfl)
theorem dX4_miss_29 : decode cX4_miss 29 = .ok (.iaload, 1) := dk_46 (dk_at dksX4_miss_1 5 rfl rfl)
theorem dX4_miss_30 : decode cX4_miss 30 = .ok (.aload_n 0, 1) := dk_42 (dk_at dksX4_miss_1 6 rfl rfl)
theorem dX4_miss_31 : decode cX4_miss 31 = .ok (.getfield 118, 3) := dk_180 0 118 (dk_at dksX4_miss_1 7 rfl rfl)
theorem dX4_miss_34 : decode cX4_miss 34 = .ok (.if_icmp .lt 24, 3) := dk_161 0 24 (dk_at dksX4_miss_1 10 rfl rfl)
theorem dX4_miss_37 : decode cX4_miss 37 = .ok (.aload_n 0, 1) := dk_42 (dk_at dksX4_miss_1 13 rfl rfl)
theorem dX4_miss_38 : decode cX4_miss 38 = .ok (.getfield 121, 3) := dk_180 0 121 (dk_at dksX4_miss_1 14 rfl rfl)
theorem dX4_miss_41 : decode cX4_miss 41 = .ok (.iconst 5, 1) := dk_8 (dk_at dksX4_miss_1 17 rfl rfl)
theorem dX4_miss_42 : decode cX4_miss 42 = .ok (.iload_n 2, 1) := dk_28 (dk_at dksX4_miss_1 18 rfl rfl)
theorem dX4_miss_43 : decode cX4_miss 43 = .ok (.imul, 1) := dk_104 (dk_at dksX4_miss_1 19 rfl rfl)
theorem dX4_miss_44 : decode cX4_miss 44 = .ok (.iconst 4, 1) := dk_7 (dk_at dksX4_miss_1 20 rfl rfl)
theorem dX4_miss_45 : decode cX4_miss 45 = .ok (.iadd, 1) := dk_96 (dk_at dksX4_miss_1 21 rfl rfl)
theorem dX4_miss_46 : decode cX4_miss 46 = .ok (.dup2, 1) := dk_92 (dk_at dksX4_miss_1 22 rfl rfl)
theorem dX4_miss_47 : decode cX4_miss 47 = .ok (.iaload, 1) := dk_46 (dk_at dksX4_miss_1 23 rfl rfl)
theorem dX4_miss_48 : decode cX4_miss 48 = .ok (.aload_n 0, 1) := dk_42 (dk_at dksX4_miss_2 0 rfl rfl)
theorem dX4_miss_49 : decode cX4_miss 49 = .ok (.getfield 109, 3) := dk_180 0 109 (dk_at dksX4_miss_2 1 rfl rfl)
theorem dX4_miss_52 : decode cX4_miss 52 = .ok (.iload_n 1, 1) := dk_27 (dk_at dksX4_miss_2 4 rfl rfl)
theorem dX4_miss_53 : decode cX4_miss 53 = .ok (.iaload, 1) := dk_46 (dk_at dksX4_miss_2 5 rfl rfl)
theorem dX4_miss_54 : decode cX4_miss 54 = .ok (.iconst 1, 1) := dk_4 (dk_at dksX4_miss_2 6 rfl rfl)
theorem dX4_miss_55 : decode cX4_miss 55 = .ok (.iadd, 1) := dk_96 (dk_at dksX4_miss_2 7 rfl rfl)
theorem dX4_miss_56 : decode cX4_miss 56 = .ok (.isub, 1) := dk_100 (dk_at dksX4_miss_2 8 rfl rfl)
theorem dX4_miss_57 : decode cX4_miss 57 = .ok (.iastore, 1) := dk_79 (dk_at dksX4_miss_2 9 rfl rfl)
theorem dX4_miss_58 : decode cX4_miss 58 = .ok (.aload_n 0, 1) := dk_42 (dk_at dksX4_miss_2 10 rfl rfl)
theorem dX4_miss_59 : decode cX4_miss 59 = .ok (.getfield 121, 3) := dk_180 0 121 (dk_at dksX4_miss_2 11 rfl rfl)
theorem dX4_miss_62 : decode cX4_miss 62 = .ok (.iconst 5, 1) := dk_8 (dk_at dksX4_miss_2 14 rfl rfl)
theorem dX4_miss_63 : decode cX4_miss 63 = .ok (.iload_n 2, 1) := dk_28 (dk_at dksX4_miss_2 15 rfl rfl)
theorem dX4_miss_64 : decode cX4_miss 64 = .ok (.imul, 1) := dk_104 (dk_at dksX4_miss_2 16 rfl rfl)
theorem dX4_miss_65 : decode cX4_miss 65 = .ok (.iconst 4, 1) := dk_7 (dk_at dksX4_miss_2 17 rfl rfl)
theorem dX4_miss_66 : decode cX4_miss 66 = .ok (.iadd, 1) := dk_96 (dk_at dksX4_miss_2 18 rfl rfl)
theorem dX4_miss_67 : decode cX4_miss 67 = .ok (.iaload, 1) := dk_46 (dk_at dksX4_miss_2 19 rfl rfl)
theorem dX4_miss_68 : decode cX4_miss 68 = .ok (.ifCond .gt 26, 3) := dk_157 0 26 (dk_at dksX4_miss_2 20 rfl rfl)
theorem dX4_miss_71 : decode cX4_miss 71 = .ok (.aload_n 0, 1) := dk_42 (dk_at dksX4_miss_2 23 rfl rfl)
theorem dX4_miss_72 : decode cX4_miss 72 = .ok (.getfield 121, 3) := dk_180 0 121 (dk_at dksX4_miss_3 0 rfl rfl)
theorem dX4_miss_75 : decode cX4_miss 75 = .ok (.iconst 5, 1) := dk_8 (dk_at dksX4_miss_3 3 rfl rfl)
theorem dX4_miss_76 : decode cX4_miss 76 = .ok (.iload_n 2, 1) := dk_28 (dk_at dksX4_miss_3 4 rfl rfl)
theorem dX4_miss_77 : decode cX4_miss 77 = .ok (.imul, 1) := dk_104 (dk_at dksX4_miss_3 5 rfl rfl)
theorem dX4_miss_78 : decode cX4_miss 78 = .ok (.iconst 4, 1) := dk_7 (dk_at dksX4_miss_3 6 rfl rfl)
theorem dX4_miss_79 : decode cX4_miss 79 = .ok (.iadd, 1) := dk_96 (dk_at dksX4_miss_3 7 rfl rfl)
theorem dX4_miss_80 : decode cX4_miss 80 = .ok (.iconst 0, 1) := dk_3 (dk_at dksX4_miss_3 8 rfl rfl)
theorem dX4_miss_81 : decode cX4_miss 81 = .ok (.iastore, 1) := dk_79 (dk_at dksX4_miss_3 9 rfl rfl)
theorem dX4_miss_82 : decode cX4_miss 82 = .ok (.aload_n 0, 1) := dk_42 (dk_at dksX4_miss_3 10 rfl rfl)
theorem dX4_miss_83 : decode cX4_miss 83 = .ok (.getfield 121, 3) := dk_180 0 121 (dk_at dksX4_miss_3 11 rfl rfl)
theorem dX4_miss_86 : decode cX4_miss 86 = .ok (.iconst 5, 1) := dk_8 (dk_at dksX4_miss_3 14 rfl rfl)
theorem dX4_miss_87 : decode cX4_miss 87 = .ok (.iload_n 2, 1) := dk_28 (dk_at dksX4_miss_3 15 rfl rfl)
theorem dX4_miss_88 : decode cX4_miss 88 = .ok (.imul, 1) := dk_104 (dk_at dksX4_miss_3 16 rfl rfl)
theorem dX4_miss_89 : decode cX4_miss 89 = .ok (.iconst 2, 1) := dk_5 (dk_at dksX4_miss_3 17 rfl rfl)
theorem dX4_miss_90 : decode cX4_miss 90 = .ok (.iadd, 1) := dk_96 (dk_at dksX4_miss_3 18 rfl rfl)
theorem dX4_miss_91 : decode cX4_miss 91 = .ok (.bipush 9, 2) := dk_16 9 (dk_at dksX4_miss_3 19 rfl rfl)
theorem dX4_miss_93 : decode cX4_miss 93 = .ok (.iastore, 1) := dk_79 (dk_at dksX4_miss_3 21 rfl rfl)
theorem dX4_miss_94 : decode cX4_miss 94 = .ok (.iload_n 3, 1) := dk_29 (dk_at dksX4_miss_3 22 rfl rfl)
theorem dX4_miss_95 : decode cX4_miss 95 = .ok (.iconst 2, 1) := dk_5 (dk_at dksX4_miss_3 23 rfl rfl)
theorem dX4_miss_96 : decode cX4_miss 96 = .ok (.if_icmp .ge 17, 3) := dk_162 0 17 (dk_at dksX4_miss_4 0 rfl rfl)
theorem dX4_miss_99 : decode cX4_miss 99 = .ok (.aload_n 0, 1) := dk_42 (dk_at dksX4_miss_4 3 rfl rfl)
theorem dX4_miss_100 : decode cX4_miss 100 = .ok (.iload_n 2, 1) := dk_28 (dk_at dksX4_miss_4 4 rfl rfl)
theorem dX4_miss_101 : decode cX4_miss 101 = .ok (.invokevirtual 501, 3) := dk_182 1 245 (dk_at dksX4_miss_4 5 rfl rfl)
theorem dX4_miss_104 : decode cX4_miss 104 = .ok (.ifCond .eq 9, 3) := dk_153 0 9 (dk_at dksX4_miss_4 8 rfl rfl)
theorem dX4_miss_107 : decode cX4_miss 107 = .ok (.aload_n 0, 1) := dk_42 (dk_at dksX4_miss_4 11 rfl rfl)
theorem dX4_miss_108 : decode cX4_miss 108 = .ok (.iload_n 1, 1) := dk_27 (dk_at dksX4_miss_4 12 rfl rfl)
theorem dX4_miss_109 : decode cX4_miss 109 = .ok (.iload_n 2, 1) := dk_28 (dk_at dksX4_miss_4 13 rfl rfl)
theorem dX4_miss_110 : decode cX4_miss 110 = .ok (.invokevirtual 535, 3) := dk_182 2 23 (dk_at dksX4_miss_4 14 rfl rfl)
theorem dX4_miss_113 : decode cX4_miss 113 = .ok (.return_, 1) := dk_177 (dk_at dksX4_miss_4 17 rfl rfl)
abbrev cX4_push : ByteArray := prog_23_method_69_code
def yX4_push : MethodName := ⟨RX4, "push", "(II)V"⟩
def dkwX4_push_6 : List UInt8 := [180, 2, 2, 100, 62, 21, 4, 42, 180, 2, 5, 100, 54, 4, 132, 6, 1, 167, 255, 188, 177]
abbrev dktX4_push_6 : List UInt8 := dkwX4_push_6 ++ []
def dkwX4_push_5 : List UInt8 := [180, 0, 121, 8, 21, 7, 104, 29, 79, 42, 180, 0, 121, 8, 21, 7, 104, 4, 96, 21, 4, 79, 29, 42]
abbrev dktX4_push_5 : List UInt8 := dkwX4_push_5 ++ dktX4_push_6
def dkwX4_push_4 : List UInt8 := [162, 0, 67, 42, 29, 42, 180, 2, 2, 100, 21, 4, 42, 180, 2, 5, 100, 182, 2, 11, 54, 7, 42]
abbrev dktX4_push_4 : List UInt8 := dkwX4_push_4 ++ dktX4_push_5
def dkwX4_push_3 : List UInt8 := [132, 5, 1, 167, 255, 217, 42, 29, 21, 4, 182, 2, 14, 154, 0, 4, 177, 3, 54, 6, 21, 6, 21, 5]
abbrev dktX4_push_3 : List UInt8 := dkwX4_push_3 ++ dktX4_push_4
def dkwX4_push_2 : List UInt8 := [182, 2, 11, 155, 0, 25, 29, 42, 180, 2, 2, 96, 62, 21, 4, 42, 180, 2, 5, 96, 54, 4]
abbrev dktX4_push_2 : List UInt8 := dkwX4_push_2 ++ dktX4_push_3
def dkwX4_push_1 : List UInt8 := [28, 104, 4, 96, 46, 54, 4, 3, 54, 5, 42, 29, 21, 4, 182, 2, 14, 153, 0, 35, 42, 29, 21, 4]
abbrev dktX4_push_1 : List UInt8 := dkwX4_push_1 ++ dktX4_push_2
def dkwX4_push_0 : List UInt8 := [42, 27, 28, 182, 2, 8, 154, 0, 4, 177, 42, 180, 0, 121, 8, 28, 104, 46, 62, 42, 180, 0, 121, 8]
abbrev dktX4_push_0 : List UInt8 := dkwX4_push_0 ++ dktX4_push_1
theorem dksX4_push_0 : cX4_push.data.toList.drop 0 = dktX4_push_0 := by decide +kernel
theorem dksX4_push_1 : cX4_push.data.toList.drop 24 = dktX4_push_1 := dk_seg dksX4_push_0 24 rfl rfl
theorem dksX4_push_2 : cX4_push.data.toList.drop 48 = dktX4_push_2 := dk_seg dksX4_push_1 24 rfl rfl
theorem dksX4_push_3 : cX4_push.data.toList.drop 70 = dktX4_push_3 := dk_seg dksX4_push_2 22 rfl rfl
theorem dksX4_push_4 : cX4_push.data.toList.drop 94 = dktX4_push_4 := dk_seg dksX4_push_3 24 rfl rfl
theorem dksX4_push_5 : cX4_push.data.toList.drop 117 = dktX4_push_5 := dk_seg dksX4_push_4 23 rfl rfl
theorem dksX4_push_6 : cX4_push.data.toList.drop 141 = dktX4_push_6 := dk_seg dksX4_push_5 24 rfl rfl
theorem dX4_push_0 : decode cX4_push 0 = .ok (.aload_n 0, 1) := dk_42 (dk_at dksX4_push_0 0 rfl rfl)
theorem dX4_push_1 : decode cX4_push 1 = .ok (.iload_n 1, 1) := dk_27 (dk_at dksX4_push_0 1 rfl rfl)
theorem dX4_push_2 : decode cX4_push 2 = .ok (.iload_n 2, 1) := dk_28 (dk_at dksX4_push_0 2 rfl rfl)
theorem dX4_push_3 : decode cX4_push 3 = .ok (.invokevirtual 520, 3) := dk_182 2 8 (dk_at dksX4_push_0 3 rfl rfl)
theorem dX4_push_6 : decode cX4_push 6 = .ok (.ifCond .ne 4, 3) := dk_154 0 4 (dk_at dksX4_push_0 6 rfl rfl)
theorem dX4_push_9 : decode cX4_push 9 = .ok (.return_, 1) := dk_177 (dk_at dksX4_push_0 9 rfl rfl)
theorem dX4_push_10 : decode cX4_push 10 = .ok (.aload_n 0, 1) := dk_42 (dk_at dksX4_push_0 10 rfl rfl)
theorem dX4_push_11 : decode cX4_push 11 = .ok (.getfield 121, 3) := dk_180 0 121 (dk_at dksX4_push_0 11 rfl rfl)
theorem dX4_push_14 : decode cX4_push 14 = .ok (.iconst 5, 1) := dk_8 (dk_at dksX4_push_0 14 rfl rfl)
theorem dX4_push_15 : decode cX4_push 15 = .ok (.iload_n 2, 1) := dk_28 (dk_at dksX4_push_0 15 rfl rfl)
theorem dX4_push_16 : decode cX4_push 16 = .ok (.imul, 1) := dk_104 (dk_at dksX4_push_0 16 rfl rfl)
theorem dX4_push_17 : decode cX4_push 17 = .ok (.iaload, 1) := dk_46 (dk_at dksX4_push_0 17 rfl rfl)
theorem dX4_push_18 : decode cX4_push 18 = .ok (.istore_n 3, 1) := dk_62 (dk_at dksX4_push_0 18 rfl rfl)
theorem dX4_push_19 : decode cX4_push 19 = .ok (.aload_n 0, 1) := dk_42 (dk_at dksX4_push_0 19 rfl rfl)
theorem dX4_push_20 : decode cX4_push 20 = .ok (.getfield 121, 3) := dk_180 0 121 (dk_at dksX4_push_0 20 rfl rfl)
theorem dX4_push_23 : decode cX4_push 23 = .ok (.iconst 5, 1) := dk_8 (dk_at dksX4_push_0 23 rfl rfl)
theorem dX4_push_24 : decode cX4_push 24 = .ok (.iload_n 2, 1) := dk_28 (dk_at dksX4_push_1 0 rfl rfl)
theorem dX4_push_25 : decode cX4_push 25 = .ok (.imul, 1) := dk_104 (dk_at dksX4_push_1 1 rfl rfl)
theorem dX4_push_26 : decode cX4_push 26 = .ok (.iconst 1, 1) := dk_4 (dk_at dksX4_push_1 2 rfl rfl)
theorem dX4_push_27 : decode cX4_push 27 = .ok (.iadd, 1) := dk_96 (dk_at dksX4_push_1 3 rfl rfl)
theorem dX4_push_28 : decode cX4_push 28 = .ok (.iaload, 1) := dk_46 (dk_at dksX4_push_1 4 rfl rfl)
theorem dX4_push_29 : decode cX4_push 29 = .ok (.istore 4, 2) := dk_54 4 (dk_at dksX4_push_1 5 rfl rfl)
theorem dX4_push_31 : decode cX4_push 31 = .ok (.iconst 0, 1) := dk_3 (dk_at dksX4_push_1 7 rfl rfl)
theorem dX4_push_32 : decode cX4_push 32 = .ok (.istore 5, 2) := dk_54 5 (dk_at dksX4_push_1 8 rfl rfl)
theorem dX4_push_34 : decode cX4_push 34 = .ok (.aload_n 0, 1) := dk_42 (dk_at dksX4_push_1 10 rfl rfl)
theorem dX4_push_35 : decode cX4_push 35 = .ok (.iload_n 3, 1) := dk_29 (dk_at dksX4_push_1 11 rfl rfl)
theorem dX4_push_36 : decode cX4_push 36 = .ok (.iload 4, 2) := dk_21 4 (dk_at dksX4_push_1 12 rfl rfl)
theorem dX4_push_38 : decode cX4_push 38 = .ok (.invokevirtual 526, 3) := dk_182 2 14 (dk_at dksX4_push_1 14 rfl rfl)
theorem dX4_push_41 : decode cX4_push 41 = .ok (.ifCond .eq 35, 3) := dk_153 0 35 (dk_at dksX4_push_1 17 rfl rfl)
theorem dX4_push_44 : decode cX4_push 44 = .ok (.aload_n 0, 1) := dk_42 (dk_at dksX4_push_1 20 rfl rfl)
theorem dX4_push_45 : decode cX4_push 45 = .ok (.iload_n 3, 1) := dk_29 (dk_at dksX4_push_1 21 rfl rfl)
theorem dX4_push_46 : decode cX4_push 46 = .ok (.iload 4, 2) := dk_21 4 (dk_at dksX4_push_1 22 rfl rfl)
theorem dX4_push_48 : decode cX4_push 48 = .ok (.invokevirtual 523, 3) := dk_182 2 11 (dk_at dksX4_push_2 0 rfl rfl)
theorem dX4_push_51 : decode cX4_push 51 = .ok (.ifCond .lt 25, 3) := dk_155 0 25 (dk_at dksX4_push_2 3 rfl rfl)
theorem dX4_push_54 : decode cX4_push 54 = .ok (.iload_n 3, 1) := dk_29 (dk_at dksX4_push_2 6 rfl rfl)
theorem dX4_push_55 : decode cX4_push 55 = .ok (.aload_n 0, 1) := dk_42 (dk_at dksX4_push_2 7 rfl rfl)
theorem dX4_push_56 : decode cX4_push 56 = .ok (.getfield 514, 3) := dk_180 2 2 (dk_at dksX4_push_2 8 rfl rfl)
theorem dX4_push_59 : decode cX4_push 59 = .ok (.iadd, 1) := dk_96 (dk_at dksX4_push_2 11 rfl rfl)
theorem dX4_push_60 : decode cX4_push 60 = .ok (.istore_n 3, 1) := dk_62 (dk_at dksX4_push_2 12 rfl rfl)
theorem dX4_push_61 : decode cX4_push 61 = .ok (.iload 4, 2) := dk_21 4 (dk_at dksX4_push_2 13 rfl rfl)
theorem dX4_push_63 : decode cX4_push 63 = .ok (.aload_n 0, 1) := dk_42 (dk_at dksX4_push_2 15 rfl rfl)
theorem dX4_push_64 : decode cX4_push 64 = .ok (.getfield 517, 3) := dk_180 2 5 (dk_at dksX4_push_2 16 rfl rfl)
theorem dX4_push_67 : decode cX4_push 67 = .ok (.iadd, 1) := dk_96 (dk_at dksX4_push_2 19 rfl rfl)
theorem dX4_push_68 : decode cX4_push 68 = .ok (.istore 4, 2) := dk_54 4 (dk_at dksX4_push_2 20 rfl rfl)
theorem dX4_push_70 : decode cX4_push 70 = .ok (.iinc 5 1, 3) := dk_132 5 1 (dk_at dksX4_push_3 0 rfl rfl)
theorem dX4_push_73 : decode cX4_push 73 = .ok (.goto (-39), 3) := dk_167 255 217 (dk_at dksX4_push_3 3 rfl rfl)
theorem dX4_push_76 : decode cX4_push 76 = .ok (.aload_n 0, 1) := dk_42 (dk_at dksX4_push_3 6 rfl rfl)
theorem dX4_push_77 : decode cX4_push 77 = .ok (.iload_n 3, 1) := dk_29 (dk_at dksX4_push_3 7 rfl rfl)
theorem dX4_push_78 : decode cX4_push 78 = .ok (.iload 4, 2) := dk_21 4 (dk_at dksX4_push_3 8 rfl rfl)
theorem dX4_push_80 : decode cX4_push 80 = .ok (.invokevirtual 526, 3) := dk_182 2 14 (dk_at dksX4_push_3 10 rfl rfl)
theorem dX4_push_83 : decode cX4_push 83 = .ok (.ifCond .ne 4, 3) := dk_154 0 4 (dk_at dksX4_push_3 13 rfl rfl)
theorem dX4_push_86 : decode cX4_push 86 = .ok (.return_, 1) := dk_177 (dk_at dksX4_push_3 16 rfl rfl)
theorem dX4_push_87 : decode cX4_push 87 = .ok (.iconst 0, 1) := dk_3 (dk_at dksX4_push_3 17 rfl rfl)
theorem dX4_push_88 : decode cX4_push 88 = .ok (.istore 6, 2) := dk_54 6 (dk_at dksX4_push_3 18 rfl rfl)
theorem dX4_push_90 : decode cX4_push 90 = .ok (.iload 6, 2) := dk_21 6 (dk_at dksX4_push_3 20 rfl rfl)
theorem dX4_push_92 : decode cX4_push 92 = .ok (.iload 5, 2) := dk_21 5 (dk_at dksX4_push_3 22 rfl rfl)
theorem dX4_push_94 : decode cX4_push 94 = .ok (.if_icmp .ge 67, 3) := dk_162 0 67 (dk_at dksX4_push_4 0 rfl rfl)
theorem dX4_push_97 : decode cX4_push 97 = .ok (.aload_n 0, 1) := dk_42 (dk_at dksX4_push_4 3 rfl rfl)
theorem dX4_push_98 : decode cX4_push 98 = .ok (.iload_n 3, 1) := dk_29 (dk_at dksX4_push_4 4 rfl rfl)
theorem dX4_push_99 : decode cX4_push 99 = .ok (.aload_n 0, 1) := dk_42 (dk_at dksX4_push_4 5 rfl rfl)
theorem dX4_push_100 : decode cX4_push 100 = .ok (.getfield 514, 3) := dk_180 2 2 (dk_at dksX4_push_4 6 rfl rfl)
theorem dX4_push_103 : decode cX4_push 103 = .ok (.isub, 1) := dk_100 (dk_at dksX4_push_4 9 rfl rfl)
theorem dX4_push_104 : decode cX4_push 104 = .ok (.iload 4, 2) := dk_21 4 (dk_at dksX4_push_4 10 rfl rfl)
theorem dX4_push_106 : decode cX4_push 106 = .ok (.aload_n 0, 1) := dk_42 (dk_at dksX4_push_4 12 rfl rfl)
theorem dX4_push_107 : decode cX4_push 107 = .ok (.getfield 517, 3) := dk_180 2 5 (dk_at dksX4_push_4 13 rfl rfl)
theorem dX4_push_110 : decode cX4_push 110 = .ok (.isub, 1) := dk_100 (dk_at dksX4_push_4 16 rfl rfl)
theorem dX4_push_111 : decode cX4_push 111 = .ok (.invokevirtual 523, 3) := dk_182 2 11 (dk_at dksX4_push_4 17 rfl rfl)
theorem dX4_push_114 : decode cX4_push 114 = .ok (.istore 7, 2) := dk_54 7 (dk_at dksX4_push_4 20 rfl rfl)
theorem dX4_push_116 : decode cX4_push 116 = .ok (.aload_n 0, 1) := dk_42 (dk_at dksX4_push_4 22 rfl rfl)
theorem dX4_push_117 : decode cX4_push 117 = .ok (.getfield 121, 3) := dk_180 0 121 (dk_at dksX4_push_5 0 rfl rfl)
theorem dX4_push_120 : decode cX4_push 120 = .ok (.iconst 5, 1) := dk_8 (dk_at dksX4_push_5 3 rfl rfl)
theorem dX4_push_121 : decode cX4_push 121 = .ok (.iload 7, 2) := dk_21 7 (dk_at dksX4_push_5 4 rfl rfl)
theorem dX4_push_123 : decode cX4_push 123 = .ok (.imul, 1) := dk_104 (dk_at dksX4_push_5 6 rfl rfl)
theorem dX4_push_124 : decode cX4_push 124 = .ok (.iload_n 3, 1) := dk_29 (dk_at dksX4_push_5 7 rfl rfl)
theorem dX4_push_125 : decode cX4_push 125 = .ok (.iastore, 1) := dk_79 (dk_at dksX4_push_5 8 rfl rfl)
theorem dX4_push_126 : decode cX4_push 126 = .ok (.aload_n 0, 1) := dk_42 (dk_at dksX4_push_5 9 rfl rfl)
theorem dX4_push_127 : decode cX4_push 127 = .ok (.getfield 121, 3) := dk_180 0 121 (dk_at dksX4_push_5 10 rfl rfl)
theorem dX4_push_130 : decode cX4_push 130 = .ok (.iconst 5, 1) := dk_8 (dk_at dksX4_push_5 13 rfl rfl)
theorem dX4_push_131 : decode cX4_push 131 = .ok (.iload 7, 2) := dk_21 7 (dk_at dksX4_push_5 14 rfl rfl)
theorem dX4_push_133 : decode cX4_push 133 = .ok (.imul, 1) := dk_104 (dk_at dksX4_push_5 16 rfl rfl)
theorem dX4_push_134 : decode cX4_push 134 = .ok (.iconst 1, 1) := dk_4 (dk_at dksX4_push_5 17 rfl rfl)
theorem dX4_push_135 : decode cX4_push 135 = .ok (.iadd, 1) := dk_96 (dk_at dksX4_push_5 18 rfl rfl)
theorem dX4_push_136 : decode cX4_push 136 = .ok (.iload 4, 2) := dk_21 4 (dk_at dksX4_push_5 19 rfl rfl)
theorem dX4_push_138 : decode cX4_push 138 = .ok (.iastore, 1) := dk_79 (dk_at dksX4_push_5 21 rfl rfl)
theorem dX4_push_139 : decode cX4_push 139 = .ok (.iload_n 3, 1) := dk_29 (dk_at dksX4_push_5 22 rfl rfl)
theorem dX4_push_140 : decode cX4_push 140 = .ok (.aload_n 0, 1) := dk_42 (dk_at dksX4_push_5 23 rfl rfl)
theorem dX4_push_141 : decode cX4_push 141 = .ok (.getfield 514, 3) := dk_180 2 2 (dk_at dksX4_push_6 0 rfl rfl)
theorem dX4_push_144 : decode cX4_push 144 = .ok (.isub, 1) := dk_100 (dk_at dksX4_push_6 3 rfl rfl)
theorem dX4_push_145 : decode cX4_push 145 = .ok (.istore_n 3, 1) := dk_62 (dk_at dksX4_push_6 4 rfl rfl)
theorem dX4_push_146 : decode cX4_push 146 = .ok (.iload 4, 2) := dk_21 4 (dk_at dksX4_push_6 5 rfl rfl)
theorem dX4_push_148 : decode cX4_push 148 = .ok (.aload_n 0, 1) := dk_42 (dk_at dksX4_push_6 7 rfl rfl)
theorem dX4_push_149 : decode cX4_push 149 = .ok (.getfield 517, 3) := dk_180 2 5 (dk_at dksX4_push_6 8 rfl rfl)
theorem dX4_push_152 : decode cX4_push 152 = .ok (.isub, 1) := dk_100 (dk_at dksX4_push_6 11 rfl rfl)
theorem dX4_push_153 : decode cX4_push 153 = .ok (.istore 4, 2) := dk_54 4 (dk_at dksX4_push_6 12 rfl rfl)
theorem dX4_push_155 : decode cX4_push 155 = .ok (.iinc 6 1, 3) := dk_132 6 1 (dk_at dksX4_push_6 14 rfl rfl)
theorem dX4_push_158 : decode cX4_push 158 = .ok (.goto (-68), 3) := dk_167 255 188 (dk_at dksX4_push_6 17 rfl rfl)
theorem dX4_push_161 : decode cX4_push 161 = .ok (.return_, 1) := dk_177 (dk_at dksX4_push_6 20 rfl rfl)
abbrev cX4_isCell : ByteArray := prog_23_method_54_code
def yX4_isCell : MethodName := ⟨RX4, "isCell", "(II)Z"⟩
def dkwX4_isCell_1 : List UInt8 := [184, 1, 238, 153, 0, 7, 4, 167, 0, 4, 3, 172]
abbrev dktX4_isCell_1 : List UInt8 := dkwX4_isCell_1 ++ []
def dkwX4_isCell_0 : List UInt8 := [27, 3, 42, 180, 1, 199, 4, 100, 184, 1, 238, 153, 0, 21, 28, 3, 42, 180, 1, 202, 4, 100]
abbrev dktX4_isCell_0 : List UInt8 := dkwX4_isCell_0 ++ dktX4_isCell_1
theorem dksX4_isCell_0 : cX4_isCell.data.toList.drop 0 = dktX4_isCell_0 := by decide +kernel
theorem dksX4_isCell_1 : cX4_isCell.data.toList.drop 22 = dktX4_isCell_1 := dk_seg dksX4_isCell_0 22 rfl rfl
theorem dX4_isCell_0 : decode cX4_isCell 0 = .ok (.iload_n 1, 1) := dk_27 (dk_at dksX4_isCell_0 0 rfl rfl)
theorem dX4_isCell_1 : decode cX4_isCell 1 = .ok (.iconst 0, 1) := dk_3 (dk_at dksX4_isCell_0 1 rfl rfl)
theorem dX4_isCell_2 : decode cX4_isCell 2 = .ok (.aload_n 0, 1) := dk_42 (dk_at dksX4_isCell_0 2 rfl rfl)
theorem dX4_isCell_3 : decode cX4_isCell 3 = .ok (.getfield 455, 3) := dk_180 1 199 (dk_at dksX4_isCell_0 3 rfl rfl)
theorem dX4_isCell_6 : decode cX4_isCell 6 = .ok (.iconst 1, 1) := dk_4 (dk_at dksX4_isCell_0 6 rfl rfl)
theorem dX4_isCell_7 : decode cX4_isCell 7 = .ok (.isub, 1) := dk_100 (dk_at dksX4_isCell_0 7 rfl rfl)
theorem dX4_isCell_8 : decode cX4_isCell 8 = .ok (.invokestatic 494, 3) := dk_184 1 238 (dk_at dksX4_isCell_0 8 rfl rfl)
theorem dX4_isCell_11 : decode cX4_isCell 11 = .ok (.ifCond .eq 21, 3) := dk_153 0 21 (dk_at dksX4_isCell_0 11 rfl rfl)
theorem dX4_isCell_14 : decode cX4_isCell 14 = .ok (.iload_n 2, 1) := dk_28 (dk_at dksX4_isCell_0 14 rfl rfl)
theorem dX4_isCell_15 : decode cX4_isCell 15 = .ok (.iconst 0, 1) := dk_3 (dk_at dksX4_isCell_0 15 rfl rfl)
theorem dX4_isCell_16 : decode cX4_isCell 16 = .ok (.aload_n 0, 1) := dk_42 (dk_at dksX4_isCell_0 16 rfl rfl)
theorem dX4_isCell_17 : decode cX4_isCell 17 = .ok (.getfield 458, 3) := dk_180 1 202 (dk_at dksX4_isCell_0 17 rfl rfl)
theorem dX4_isCell_20 : decode cX4_isCell 20 = .ok (.iconst 1, 1) := dk_4 (dk_at dksX4_isCell_0 20 rfl rfl)
theorem dX4_isCell_21 : decode cX4_isCell 21 = .ok (.isub, 1) := dk_100 (dk_at dksX4_isCell_0 21 rfl rfl)
theorem dX4_isCell_22 : decode cX4_isCell 22 = .ok (.invokestatic 494, 3) := dk_184 1 238 (dk_at dksX4_isCell_1 0 rfl rfl)
theorem dX4_isCell_25 : decode cX4_isCell 25 = .ok (.ifCond .eq 7, 3) := dk_153 0 7 (dk_at dksX4_isCell_1 3 rfl rfl)
theorem dX4_isCell_28 : decode cX4_isCell 28 = .ok (.iconst 1, 1) := dk_4 (dk_at dksX4_isCell_1 6 rfl rfl)
theorem dX4_isCell_29 : decode cX4_isCell 29 = .ok (.goto 4, 3) := dk_167 0 4 (dk_at dksX4_isCell_1 7 rfl rfl)
theorem dX4_isCell_32 : decode cX4_isCell 32 = .ok (.iconst 0, 1) := dk_3 (dk_at dksX4_isCell_1 10 rfl rfl)
theorem dX4_isCell_33 : decode cX4_isCell 33 = .ok (.ireturn, 1) := dk_172 (dk_at dksX4_isCell_1 11 rfl rfl)
abbrev cX4_breathe : ByteArray := prog_23_method_87_code
def yX4_breathe : MethodName := ⟨RX4, "breathe", "(I)I"⟩
def dkwX4_breathe_1 : List UInt8 := [182, 1, 223, 42, 180, 0, 106, 27, 46, 172]
abbrev dktX4_breathe_1 : List UInt8 := dkwX4_breathe_1 ++ []
def dkwX4_breathe_0 : List UInt8 := [42, 27, 182, 2, 51, 154, 0, 5, 2, 172, 42, 182, 2, 63, 42, 182, 2, 54, 42, 27, 182, 2, 45, 42]
abbrev dktX4_breathe_0 : List UInt8 := dkwX4_breathe_0 ++ dktX4_breathe_1
theorem dksX4_breathe_0 : cX4_breathe.data.toList.drop 0 = dktX4_breathe_0 := by decide +kernel
theorem dksX4_breathe_1 : cX4_breathe.data.toList.drop 24 = dktX4_breathe_1 := dk_seg dksX4_breathe_0 24 rfl rfl
theorem dX4_breathe_0 : decode cX4_breathe 0 = .ok (.aload_n 0, 1) := dk_42 (dk_at dksX4_breathe_0 0 rfl rfl)
theorem dX4_breathe_1 : decode cX4_breathe 1 = .ok (.iload_n 1, 1) := dk_27 (dk_at dksX4_breathe_0 1 rfl rfl)
theorem dX4_breathe_2 : decode cX4_breathe 2 = .ok (.invokevirtual 563, 3) := dk_182 2 51 (dk_at dksX4_breathe_0 2 rfl rfl)
theorem dX4_breathe_5 : decode cX4_breathe 5 = .ok (.ifCond .ne 5, 3) := dk_154 0 5 (dk_at dksX4_breathe_0 5 rfl rfl)
theorem dX4_breathe_8 : decode cX4_breathe 8 = .ok (.iconst (-1), 1) := dk_2 (dk_at dksX4_breathe_0 8 rfl rfl)
theorem dX4_breathe_9 : decode cX4_breathe 9 = .ok (.ireturn, 1) := dk_172 (dk_at dksX4_breathe_0 9 rfl rfl)
theorem dX4_breathe_10 : decode cX4_breathe 10 = .ok (.aload_n 0, 1) := dk_42 (dk_at dksX4_breathe_0 10 rfl rfl)
theorem dX4_breathe_11 : decode cX4_breathe 11 = .ok (.invokevirtual 575, 3) := dk_182 2 63 (dk_at dksX4_breathe_0 11 rfl rfl)
theorem dX4_breathe_14 : decode cX4_breathe 14 = .ok (.aload_n 0, 1) := dk_42 (dk_at dksX4_breathe_0 14 rfl rfl)
theorem dX4_breathe_15 : decode cX4_breathe 15 = .ok (.invokevirtual 566, 3) := dk_182 2 54 (dk_at dksX4_breathe_0 15 rfl rfl)
theorem dX4_breathe_18 : decode cX4_breathe 18 = .ok (.aload_n 0, 1) := dk_42 (dk_at dksX4_breathe_0 18 rfl rfl)
theorem dX4_breathe_19 : decode cX4_breathe 19 = .ok (.iload_n 1, 1) := dk_27 (dk_at dksX4_breathe_0 19 rfl rfl)
theorem dX4_breathe_20 : decode cX4_breathe 20 = .ok (.invokevirtual 557, 3) := dk_182 2 45 (dk_at dksX4_breathe_0 20 rfl rfl)
theorem dX4_breathe_23 : decode cX4_breathe 23 = .ok (.aload_n 0, 1) := dk_42 (dk_at dksX4_breathe_0 23 rfl rfl)
theorem dX4_breathe_24 : decode cX4_breathe 24 = .ok (.invokevirtual 479, 3) := dk_182 1 223 (dk_at dksX4_breathe_1 0 rfl rfl)
theorem dX4_breathe_27 : decode cX4_breathe 27 = .ok (.aload_n 0, 1) := dk_42 (dk_at dksX4_breathe_1 3 rfl rfl)
theorem dX4_breathe_28 : decode cX4_breathe 28 = .ok (.getfield 106, 3) := dk_180 0 106 (dk_at dksX4_breathe_1 4 rfl rfl)
theorem dX4_breathe_31 : decode cX4_breathe 31 = .ok (.iload_n 1, 1) := dk_27 (dk_at dksX4_breathe_1 7 rfl rfl)
theorem dX4_breathe_32 : decode cX4_breathe 32 = .ok (.iaload, 1) := dk_46 (dk_at dksX4_breathe_1 8 rfl rfl)
theorem dX4_breathe_33 : decode cX4_breathe 33 = .ok (.ireturn, 1) := dk_172 (dk_at dksX4_breathe_1 9 rfl rfl)
abbrev cX4_breathes : ByteArray := prog_23_method_74_code
def yX4_breathes : MethodName := ⟨RX4, "breathes", "(I)V"⟩
def dkwX4_breathes_1 : List UInt8 := [27, 104, 96, 92, 46, 5, 96, 79, 177]
abbrev dktX4_breathes_1 : List UInt8 := dkwX4_breathes_1 ++ []
def dkwX4_breathes_0 : List UInt8 := [42, 180, 0, 121, 16, 50, 6, 27, 104, 96, 42, 180, 0, 106, 27, 46, 79, 42, 180, 0, 121, 16, 52, 6]
abbrev dktX4_breathes_0 : List UInt8 := dkwX4_breathes_0 ++ dktX4_breathes_1
theorem dksX4_breathes_0 : cX4_breathes.data.toList.drop 0 = dktX4_breathes_0 := by decide +kernel
theorem dksX4_breathes_1 : cX4_breathes.data.toList.drop 24 = dktX4_breathes_1 := dk_seg dksX4_breathes_0 24 rfl rfl
theorem dX4_breathes_0 : decode cX4_breathes 0 = .ok (.aload_n 0, 1) := dk_42 (dk_at dksX4_breathes_0 0 rfl rfl)
theorem dX4_breathes_1 : decode cX4_breathes 1 = .ok (.getfield 121, 3) := dk_180 0 121 (dk_at dksX4_breathes_0 1 rfl rfl)
theorem dX4_breathes_4 : decode cX4_breathes 4 = .ok (.bipush 50, 2) := dk_16 50 (dk_at dksX4_breathes_0 4 rfl rfl)
theorem dX4_breathes_6 : decode cX4_breathes 6 = .ok (.iconst 3, 1) := dk_6 (dk_at dksX4_breathes_0 6 rfl rfl)
theorem dX4_breathes_7 : decode cX4_breathes 7 = .ok (.iload_n 1, 1) := dk_27 (dk_at dksX4_breathes_0 7 rfl rfl)
theorem dX4_breathes_8 : decode cX4_breathes 8 = .ok (.imul, 1) := dk_104 (dk_at dksX4_breathes_0 8 rfl rfl)
theorem dX4_breathes_9 : decode cX4_breathes 9 = .ok (.iadd, 1) := dk_96 (dk_at dksX4_breathes_0 9 rfl rfl)
theorem dX4_breathes_10 : decode cX4_breathes 10 = .ok (.aload_n 0, 1) := dk_42 (dk_at dksX4_breathes_0 10 rfl rfl)
theorem dX4_breathes_11 : decode cX4_breathes 11 = .ok (.getfield 106, 3) := dk_180 0 106 (dk_at dksX4_breathes_0 11 rfl rfl)
theorem dX4_breathes_14 : decode cX4_breathes 14 = .ok (.iload_n 1, 1) := dk_27 (dk_at dksX4_breathes_0 14 rfl rfl)
theorem dX4_breathes_15 : decode cX4_breathes 15 = .ok (.iaload, 1) := dk_46 (dk_at dksX4_breathes_0 15 rfl rfl)
theorem dX4_breathes_16 : decode cX4_breathes 16 = .ok (.iastore, 1) := dk_79 (dk_at dksX4_breathes_0 16 rfl rfl)
theorem dX4_breathes_17 : decode cX4_breathes 17 = .ok (.aload_n 0, 1) := dk_42 (dk_at dksX4_breathes_0 17 rfl rfl)
theorem dX4_breathes_18 : decode cX4_breathes 18 = .ok (.getfield 121, 3) := dk_180 0 121 (dk_at dksX4_breathes_0 18 rfl rfl)
theorem dX4_breathes_21 : decode cX4_breathes 21 = .ok (.bipush 52, 2) := dk_16 52 (dk_at dksX4_breathes_0 21 rfl rfl)
theorem dX4_breathes_23 : decode cX4_breathes 23 = .ok (.iconst 3, 1) := dk_6 (dk_at dksX4_breathes_0 23 rfl rfl)
theorem dX4_breathes_24 : decode cX4_breathes 24 = .ok (.iload_n 1, 1) := dk_27 (dk_at dksX4_breathes_1 0 rfl rfl)
theorem dX4_breathes_25 : decode cX4_breathes 25 = .ok (.imul, 1) := dk_104 (dk_at dksX4_breathes_1 1 rfl rfl)
theorem dX4_breathes_26 : decode cX4_breathes 26 = .ok (.iadd, 1) := dk_96 (dk_at dksX4_breathes_1 2 rfl rfl)
theorem dX4_breathes_27 : decode cX4_breathes 27 = .ok (.dup2, 1) := dk_92 (dk_at dksX4_breathes_1 3 rfl rfl)
theorem dX4_breathes_28 : decode cX4_breathes 28 = .ok (.iaload, 1) := dk_46 (dk_at dksX4_breathes_1 4 rfl rfl)
theorem dX4_breathes_29 : decode cX4_breathes 29 = .ok (.iconst 2, 1) := dk_5 (dk_at dksX4_breathes_1 5 rfl rfl)
theorem dX4_breathes_30 : decode cX4_breathes 30 = .ok (.iadd, 1) := dk_96 (dk_at dksX4_breathes_1 6 rfl rfl)
theorem dX4_breathes_31 : decode cX4_breathes 31 = .ok (.iastore, 1) := dk_79 (dk_at dksX4_breathes_1 7 rfl rfl)
theorem dX4_breathes_32 : decode cX4_breathes 32 = .ok (.return_, 1) := dk_177 (dk_at dksX4_breathes_1 8 rfl rfl)
abbrev cX4_wave : ByteArray := prog_23_method_90_code
def yX4_wave : MethodName := ⟨RX4, "wave", "(I)I"⟩
def dkwX4_wave_1 : List UInt8 := [61, 42, 182, 1, 223, 28, 172]
abbrev dktX4_wave_1 : List UInt8 := dkwX4_wave_1 ++ []
def dkwX4_wave_0 : List UInt8 := [27, 3, 6, 184, 1, 238, 154, 0, 5, 2, 172, 42, 182, 2, 63, 42, 182, 2, 54, 42, 27, 182, 2, 69]
abbrev dktX4_wave_0 : List UInt8 := dkwX4_wave_0 ++ dktX4_wave_1
theorem dksX4_wave_0 : cX4_wave.data.toList.drop 0 = dktX4_wave_0 := by decide +kernel
theorem dksX4_wave_1 : cX4_wave.data.toList.drop 24 = dktX4_wave_1 := dk_seg dksX4_wave_0 24 rfl rfl
theorem dX4_wave_0 : decode cX4_wave 0 = .ok (.iload_n 1, 1) := dk_27 (dk_at dksX4_wave_0 0 rfl rfl)
theorem dX4_wave_1 : decode cX4_wave 1 = .ok (.iconst 0, 1) := dk_3 (dk_at dksX4_wave_0 1 rfl rfl)
theorem dX4_wave_2 : decode cX4_wave 2 = .ok (.iconst 3, 1) := dk_6 (dk_at dksX4_wave_0 2 rfl rfl)
theorem dX4_wave_3 : decode cX4_wave 3 = .ok (.invokestatic 494, 3) := dk_184 1 238 (dk_at dksX4_wave_0 3 rfl rfl)
theorem dX4_wave_6 : decode cX4_wave 6 = .ok (.ifCond .ne 5, 3) := dk_154 0 5 (dk_at dksX4_wave_0 6 rfl rfl)
theorem dX4_wave_9 : decode cX4_wave 9 = .ok (.iconst (-1), 1) := dk_2 (dk_at dksX4_wave_0 9 rfl rfl)
theorem dX4_wave_10 : decode cX4_wave 10 = .ok (.ireturn, 1) := dk_172 (dk_at dksX4_wave_0 10 rfl rfl)
theorem dX4_wave_11 : decode cX4_wave 11 = .ok (.aload_n 0, 1) := dk_42 (dk_at dksX4_wave_0 11 rfl rfl)
theorem dX4_wave_12 : decode cX4_wave 12 = .ok (.invokevirtual 575, 3) := dk_182 2 63 (dk_at dksX4_wave_0 12 rfl rfl)
theorem dX4_wave_15 : decode cX4_wave 15 = .ok (.aload_n 0, 1) := dk_42 (dk_at dksX4_wave_0 15 rfl rfl)
theorem dX4_wave_16 : decode cX4_wave 16 = .ok (.invokevirtual 566, 3) := dk_182 2 54 (dk_at dksX4_wave_0 16 rfl rfl)
theorem dX4_wave_19 : decode cX4_wave 19 = .ok (.aload_n 0, 1) := dk_42 (dk_at dksX4_wave_0 19 rfl rfl)
theorem dX4_wave_20 : decode cX4_wave 20 = .ok (.iload_n 1, 1) := dk_27 (dk_at dksX4_wave_0 20 rfl rfl)
theorem dX4_wave_21 : decode cX4_wave 21 = .ok (.invokevirtual 581, 3) := dk_182 2 69 (dk_at dksX4_wave_0 21 rfl rfl)
theorem dX4_wave_24 : decode cX4_wave 24 = .ok (.istore_n 2, 1) := dk_61 (dk_at dksX4_wave_1 0 rfl rfl)
theorem dX4_wave_25 : decode cX4_wave 25 = .ok (.aload_n 0, 1) := dk_42 (dk_at dksX4_wave_1 1 rfl rfl)
theorem dX4_wave_26 : decode cX4_wave 26 = .ok (.invokevirtual 479, 3) := dk_182 1 223 (dk_at dksX4_wave_1 2 rfl rfl)
theorem dX4_wave_29 : decode cX4_wave 29 = .ok (.iload_n 2, 1) := dk_28 (dk_at dksX4_wave_1 5 rfl rfl)
theorem dX4_wave_30 : decode cX4_wave 30 = .ok (.ireturn, 1) := dk_172 (dk_at dksX4_wave_1 6 rfl rfl)
abbrev cX4_wavesTo : ByteArray := prog_23_method_89_code
def yX4_wavesTo : MethodName := ⟨RX4, "wavesTo", "(I)I"⟩
def dkwX4_wavesTo_5 : List UInt8 := [132, 6, 1, 167, 255, 183, 132, 5, 1, 167, 255, 168, 28, 172]
abbrev dktX4_wavesTo_5 : List UInt8 := dkwX4_wavesTo_5 ++ []
def dkwX4_wavesTo_4 : List UInt8 := [162, 0, 8, 21, 6, 167, 0, 5, 21, 7, 27, 182, 2, 66, 153, 0, 7, 4, 167, 0, 4, 3, 96, 61]
abbrev dktX4_wavesTo_4 : List UInt8 := dkwX4_wavesTo_4 ++ dktX4_wavesTo_5
def dkwX4_wavesTo_3 : List UInt8 := [100, 167, 0, 5, 21, 5, 54, 7, 28, 42, 27, 5, 162, 0, 8, 21, 7, 167, 0, 5, 21, 6, 27, 5]
abbrev dktX4_wavesTo_3 : List UInt8 := dkwX4_wavesTo_3 ++ dktX4_wavesTo_4
def dkwX4_wavesTo_2 : List UInt8 := [54, 6, 21, 6, 21, 4, 162, 0, 72, 27, 4, 159, 0, 8, 27, 5, 160, 0, 12, 29, 4, 100, 21, 5]
abbrev dktX4_wavesTo_2 : List UInt8 := dkwX4_wavesTo_2 ++ dktX4_wavesTo_3
def dkwX4_wavesTo_1 : List UInt8 := [42, 180, 1, 202, 167, 0, 7, 42, 180, 1, 199, 54, 4, 3, 54, 5, 21, 5, 29, 162, 0, 88, 3]
abbrev dktX4_wavesTo_1 : List UInt8 := dkwX4_wavesTo_1 ++ dktX4_wavesTo_2
def dkwX4_wavesTo_0 : List UInt8 := [3, 61, 27, 5, 162, 0, 10, 42, 180, 1, 199, 167, 0, 7, 42, 180, 1, 202, 62, 27, 5, 162, 0, 10]
abbrev dktX4_wavesTo_0 : List UInt8 := dkwX4_wavesTo_0 ++ dktX4_wavesTo_1
theorem dksX4_wavesTo_0 : cX4_wavesTo.data.toList.drop 0 = dktX4_wavesTo_0 := by decide +kernel
theorem dksX4_wavesTo_1 : cX4_wavesTo.data.toList.drop 24 = dktX4_wavesTo_1 := dk_seg dksX4_wavesTo_0 24 rfl rfl
theorem dksX4_wavesTo_2 : cX4_wavesTo.data.toList.drop 47 = dktX4_wavesTo_2 := dk_seg dksX4_wavesTo_1 23 rfl rfl
theorem dksX4_wavesTo_3 : cX4_wavesTo.data.toList.drop 71 = dktX4_wavesTo_3 := dk_seg dksX4_wavesTo_2 24 rfl rfl
theorem dksX4_wavesTo_4 : cX4_wavesTo.data.toList.drop 95 = dktX4_wavesTo_4 := dk_seg dksX4_wavesTo_3 24 rfl rfl
theorem dksX4_wavesTo_5 : cX4_wavesTo.data.toList.drop 119 = dktX4_wavesTo_5 := dk_seg dksX4_wavesTo_4 24 rfl rfl
theorem dX4_wavesTo_0 : decode cX4_wavesTo 0 = .ok (.iconst 0, 1) := dk_3 (dk_at dksX4_wavesTo_0 0 rfl rfl)
theorem dX4_wavesTo_1 : decode cX4_wavesTo 1 = .ok (.istore_n 2, 1) := dk_61 (dk_at dksX4_wavesTo_0 1 rfl rfl)
theorem dX4_wavesTo_2 : decode cX4_wavesTo 2 = .ok (.iload_n 1, 1) := dk_27 (dk_at dksX4_wavesTo_0 2 rfl rfl)
theorem dX4_wavesTo_3 : decode cX4_wavesTo 3 = .ok (.iconst 2, 1) := dk_5 (dk_at dksX4_wavesTo_0 3 rfl rfl)
theorem dX4_wavesTo_4 : decode cX4_wavesTo 4 = .ok (.if_icmp .ge 10, 3) := dk_162 0 10 (dk_at dksX4_wavesTo_0 4 rfl rfl)
theorem dX4_wavesTo_7 : decode cX4_wavesTo 7 = .ok (.aload_n 0, 1) := dk_42 (dk_at dksX4_wavesTo_0 7 rfl rfl)
theorem dX4_wavesTo_8 : decode cX4_wavesTo 8 = .ok (.getfield 455, 3) := dk_180 1 199 (dk_at dksX4_wavesTo_0 8 rfl rfl)
theorem dX4_wavesTo_11 : decode cX4_wavesTo 11 = .ok (.goto 7, 3) := dk_167 0 7 (dk_at dksX4_wavesTo_0 11 rfl rfl)
theorem dX4_wavesTo_14 : decode cX4_wavesTo 14 = .ok (.aload_n 0, 1) := dk_42 (dk_at dksX4_wavesTo_0 14 rfl rfl)
theorem dX4_wavesTo_15 : decode cX4_wavesTo 15 = .ok (.getfield 458, 3) := dk_180 1 202 (dk_at dksX4_wavesTo_0 15 rfl rfl)
theorem dX4_wavesTo_18 : decode cX4_wavesTo 18 = .ok (.istore_n 3, 1) := dk_62 (dk_at dksX4_wavesTo_0 18 rfl rfl)
theorem dX4_wavesTo_19 : decode cX4_wavesTo 19 = .ok (.iload_n 1, 1) := dk_27 (dk_at dksX4_wavesTo_0 19 rfl rfl)
theorem dX4_wavesTo_20 : decode cX4_wavesTo 20 = .ok (.iconst 2, 1) := dk_5 (dk_at dksX4_wavesTo_0 20 rfl rfl)
theorem dX4_wavesTo_21 : decode cX4_wavesTo 21 = .ok (.if_icmp .ge 10, 3) := dk_162 0 10 (dk_at dksX4_wavesTo_0 21 rfl rfl)
theorem dX4_wavesTo_24 : decode cX4_wavesTo 24 = .ok (.aload_n 0, 1) := dk_42 (dk_at dksX4_wavesTo_1 0 rfl rfl)
theorem dX4_wavesTo_25 : decode cX4_wavesTo 25 = .ok (.getfield 458, 3) := dk_180 1 202 (dk_at dksX4_wavesTo_1 1 rfl rfl)
theorem dX4_wavesTo_28 : decode cX4_wavesTo 28 = .ok (.goto 7, 3) := dk_167 0 7 (dk_at dksX4_wavesTo_1 4 rfl rfl)
theorem dX4_wavesTo_31 : decode cX4_wavesTo 31 = .ok (.aload_n 0, 1) := dk_42 (dk_at dksX4_wavesTo_1 7 rfl rfl)
theorem dX4_wavesTo_32 : decode cX4_wavesTo 32 = .ok (.getfield 455, 3) := dk_180 1 199 (dk_at dksX4_wavesTo_1 8 rfl rfl)
theorem dX4_wavesTo_35 : decode cX4_wavesTo 35 = .ok (.istore 4, 2) := dk_54 4 (dk_at dksX4_wavesTo_1 11 rfl rfl)
theorem dX4_wavesTo_37 : decode cX4_wavesTo 37 = .ok (.iconst 0, 1) := dk_3 (dk_at dksX4_wavesTo_1 13 rfl rfl)
theorem dX4_wavesTo_38 : decode cX4_wavesTo 38 = .ok (.istore 5, 2) := dk_54 5 (dk_at dksX4_wavesTo_1 14 rfl rfl)
theorem dX4_wavesTo_40 : decode cX4_wavesTo 40 = .ok (.iload 5, 2) := dk_21 5 (dk_at dksX4_wavesTo_1 16 rfl rfl)
theorem dX4_wavesTo_42 : decode cX4_wavesTo 42 = .ok (.iload_n 3, 1) := dk_29 (dk_at dksX4_wavesTo_1 18 rfl rfl)
theorem dX4_wavesTo_43 : decode cX4_wavesTo 43 = .ok (.if_icmp .ge 88, 3) := dk_162 0 88 (dk_at dksX4_wavesTo_1 19 rfl rfl)
theorem dX4_wavesTo_46 : decode cX4_wavesTo 46 = .ok (.iconst 0, 1) := dk_3 (dk_at dksX4_wavesTo_1 22 rfl rfl)
theorem dX4_wavesTo_47 : decode cX4_wavesTo 47 = .ok (.istore 6, 2) := dk_54 6 (dk_at dksX4_wavesTo_2 0 rfl rfl)
theorem dX4_wavesTo_49 : decode cX4_wavesTo 49 = .ok (.iload 6, 2) := dk_21 6 (dk_at dksX4_wavesTo_2 2 rfl rfl)
theorem dX4_wavesTo_51 : decode cX4_wavesTo 51 = .ok (.iload 4, 2) := dk_21 4 (dk_at dksX4_wavesTo_2 4 rfl rfl)
theorem dX4_wavesTo_53 : decode cX4_wavesTo 53 = .ok (.if_icmp .ge 72, 3) := dk_162 0 72 (dk_at dksX4_wavesTo_2 6 rfl rfl)
theorem dX4_wavesTo_56 : decode cX4_wavesTo 56 = .ok (.iload_n 1, 1) := dk_27 (dk_at dksX4_wavesTo_2 9 rfl rfl)
theorem dX4_wavesTo_57 : decode cX4_wavesTo 57 = .ok (.iconst 1, 1) := dk_4 (dk_at dksX4_wavesTo_2 10 rfl rfl)
theorem dX4_wavesTo_58 : decode cX4_wavesTo 58 = .ok (.if_icmp .eq 8, 3) := dk_159 0 8 (dk_at dksX4_wavesTo_2 11 rfl rfl)
theorem dX4_wavesTo_61 : decode cX4_wavesTo 61 = .ok (.iload_n 1, 1) := dk_27 (dk_at dksX4_wavesTo_2 14 rfl rfl)
theorem dX4_wavesTo_62 : decode cX4_wavesTo 62 = .ok (.iconst 2, 1) := dk_5 (dk_at dksX4_wavesTo_2 15 rfl rfl)
theorem dX4_wavesTo_63 : decode cX4_wavesTo 63 = .ok (.if_icmp .ne 12, 3) := dk_160 0 12 (dk_at dksX4_wavesTo_2 16 rfl rfl)
theorem dX4_wavesTo_66 : decode cX4_wavesTo 66 = .ok (.iload_n 3, 1) := dk_29 (dk_at dksX4_wavesTo_2 19 rfl rfl)
theorem dX4_wavesTo_67 : decode cX4_wavesTo 67 = .ok (.iconst 1, 1) := dk_4 (dk_at dksX4_wavesTo_2 20 rfl rfl)
theorem dX4_wavesTo_68 : decode cX4_wavesTo 68 = .ok (.isub, 1) := dk_100 (dk_at dksX4_wavesTo_2 21 rfl rfl)
theorem dX4_wavesTo_69 : decode cX4_wavesTo 69 = .ok (.iload 5, 2) := dk_21 5 (dk_at dksX4_wavesTo_2 22 rfl rfl)
theorem dX4_wavesTo_71 : decode cX4_wavesTo 71 = .ok (.isub, 1) := dk_100 (dk_at dksX4_wavesTo_3 0 rfl rfl)
theorem dX4_wavesTo_72 : decode cX4_wavesTo 72 = .ok (.goto 5, 3) := dk_167 0 5 (dk_at dksX4_wavesTo_3 1 rfl rfl)
theorem dX4_wavesTo_75 : decode cX4_wavesTo 75 = .ok (.iload 5, 2) := dk_21 5 (dk_at dksX4_wavesTo_3 4 rfl rfl)
theorem dX4_wavesTo_77 : decode cX4_wavesTo 77 = .ok (.istore 7, 2) := dk_54 7 (dk_at dksX4_wavesTo_3 6 rfl rfl)
theorem dX4_wavesTo_79 : decode cX4_wavesTo 79 = .ok (.iload_n 2, 1) := dk_28 (dk_at dksX4_wavesTo_3 8 rfl rfl)
theorem dX4_wavesTo_80 : decode cX4_wavesTo 80 = .ok (.aload_n 0, 1) := dk_42 (dk_at dksX4_wavesTo_3 9 rfl rfl)
theorem dX4_wavesTo_81 : decode cX4_wavesTo 81 = .ok (.iload_n 1, 1) := dk_27 (dk_at dksX4_wavesTo_3 10 rfl rfl)
theorem dX4_wavesTo_82 : decode cX4_wavesTo 82 = .ok (.iconst 2, 1) := dk_5 (dk_at dksX4_wavesTo_3 11 rfl rfl)
theorem dX4_wavesTo_83 : decode cX4_wavesTo 83 = .ok (.if_icmp .ge 8, 3) := dk_162 0 8 (dk_at dksX4_wavesTo_3 12 rfl rfl)
theorem dX4_wavesTo_86 : decode cX4_wavesTo 86 = .ok (.iload 7, 2) := dk_21 7 (dk_at dksX4_wavesTo_3 15 rfl rfl)
theorem dX4_wavesTo_88 : decode cX4_wavesTo 88 = .ok (.goto 5, 3) := dk_167 0 5 (dk_at dksX4_wavesTo_3 17 rfl rfl)
theorem dX4_wavesTo_91 : decode cX4_wavesTo 91 = .ok (.iload 6, 2) := dk_21 6 (dk_at dksX4_wavesTo_3 20 rfl rfl)
theorem dX4_wavesTo_93 : decode cX4_wavesTo 93 = .ok (.iload_n 1, 1) := dk_27 (dk_at dksX4_wavesTo_3 22 rfl rfl)
theorem dX4_wavesTo_94 : decode cX4_wavesTo 94 = .ok (.iconst 2, 1) := dk_5 (dk_at dksX4_wavesTo_3 23 rfl rfl)
theorem dX4_wavesTo_95 : decode cX4_wavesTo 95 = .ok (.if_icmp .ge 8, 3) := dk_162 0 8 (dk_at dksX4_wavesTo_4 0 rfl rfl)
theorem dX4_wavesTo_98 : decode cX4_wavesTo 98 = .ok (.iload 6, 2) := dk_21 6 (dk_at dksX4_wavesTo_4 3 rfl rfl)
theorem dX4_wavesTo_100 : decode cX4_wavesTo 100 = .ok (.goto 5, 3) := dk_167 0 5 (dk_at dksX4_wavesTo_4 5 rfl rfl)
theorem dX4_wavesTo_103 : decode cX4_wavesTo 103 = .ok (.iload 7, 2) := dk_21 7 (dk_at dksX4_wavesTo_4 8 rfl rfl)
theorem dX4_wavesTo_105 : decode cX4_wavesTo 105 = .ok (.iload_n 1, 1) := dk_27 (dk_at dksX4_wavesTo_4 10 rfl rfl)
theorem dX4_wavesTo_106 : decode cX4_wavesTo 106 = .ok (.invokevirtual 578, 3) := dk_182 2 66 (dk_at dksX4_wavesTo_4 11 rfl rfl)
theorem dX4_wavesTo_109 : decode cX4_wavesTo 109 = .ok (.ifCond .eq 7, 3) := dk_153 0 7 (dk_at dksX4_wavesTo_4 14 rfl rfl)
theorem dX4_wavesTo_112 : decode cX4_wavesTo 112 = .ok (.iconst 1, 1) := dk_4 (dk_at dksX4_wavesTo_4 17 rfl rfl)
theorem dX4_wavesTo_113 : decode cX4_wavesTo 113 = .ok (.goto 4, 3) := dk_167 0 4 (dk_at dksX4_wavesTo_4 18 rfl rfl)
theorem dX4_wavesTo_116 : decode cX4_wavesTo 116 = .ok (.iconst 0, 1) := dk_3 (dk_at dksX4_wavesTo_4 21 rfl rfl)
theorem dX4_wavesTo_117 : decode cX4_wavesTo 117 = .ok (.iadd, 1) := dk_96 (dk_at dksX4_wavesTo_4 22 rfl rfl)
theorem dX4_wavesTo_118 : decode cX4_wavesTo 118 = .ok (.istore_n 2, 1) := dk_61 (dk_at dksX4_wavesTo_4 23 rfl rfl)
theorem dX4_wavesTo_119 : decode cX4_wavesTo 119 = .ok (.iinc 6 1, 3) := dk_132 6 1 (dk_at dksX4_wavesTo_5 0 rfl rfl)
theorem dX4_wavesTo_122 : decode cX4_wavesTo 122 = .ok (.goto (-73), 3) := dk_167 255 183 (dk_at dksX4_wavesTo_5 3 rfl rfl)
theorem dX4_wavesTo_125 : decode cX4_wavesTo 125 = .ok (.iinc 5 1, 3) := dk_132 5 1 (dk_at dksX4_wavesTo_5 6 rfl rfl)
theorem dX4_wavesTo_128 : decode cX4_wavesTo 128 = .ok (.goto (-88), 3) := dk_167 255 168 (dk_at dksX4_wavesTo_5 9 rfl rfl)
theorem dX4_wavesTo_131 : decode cX4_wavesTo 131 = .ok (.iload_n 2, 1) := dk_28 (dk_at dksX4_wavesTo_5 12 rfl rfl)
theorem dX4_wavesTo_132 : decode cX4_wavesTo 132 = .ok (.ireturn, 1) := dk_172 (dk_at dksX4_wavesTo_5 13 rfl rfl)
abbrev cX4_goesOn : ByteArray := prog_23_method_88_code
def yX4_goesOn : MethodName := ⟨RX4, "goesOn", "(III)Z"⟩
def dkwX4_goesOn_4 : List UInt8 := [21, 5, 79, 42, 180, 0, 121, 8, 21, 4, 104, 4, 96, 21, 6, 79, 4, 172]
abbrev dktX4_goesOn_4 : List UInt8 := dkwX4_goesOn_4 ++ []
def dkwX4_goesOn_3 : List UInt8 := [153, 0, 14, 42, 21, 5, 21, 6, 182, 2, 11, 155, 0, 5, 3, 172, 42, 180, 0, 121, 8, 21, 4, 104]
abbrev dktX4_goesOn_3 : List UInt8 := dkwX4_goesOn_3 ++ dktX4_goesOn_4
def dkwX4_goesOn_2 : List UInt8 := [28, 4, 100, 167, 0, 4, 28, 54, 6, 21, 4, 155, 0, 25, 42, 21, 5, 21, 6, 182, 2, 14]
abbrev dktX4_goesOn_2 : List UInt8 := dkwX4_goesOn_2 ++ dktX4_goesOn_3
def dkwX4_goesOn_1 : List UInt8 := [4, 96, 167, 0, 4, 27, 54, 5, 29, 5, 160, 0, 9, 28, 4, 96, 167, 0, 15, 29, 6, 160, 0, 9]
abbrev dktX4_goesOn_1 : List UInt8 := dkwX4_goesOn_1 ++ dktX4_goesOn_2
def dkwX4_goesOn_0 : List UInt8 := [42, 27, 28, 182, 2, 11, 54, 4, 29, 154, 0, 9, 27, 4, 100, 167, 0, 15, 29, 4, 160, 0, 9, 27]
abbrev dktX4_goesOn_0 : List UInt8 := dkwX4_goesOn_0 ++ dktX4_goesOn_1
theorem dksX4_goesOn_0 : cX4_goesOn.data.toList.drop 0 = dktX4_goesOn_0 := by decide +kernel
theorem dksX4_goesOn_1 : cX4_goesOn.data.toList.drop 24 = dktX4_goesOn_1 := dk_seg dksX4_goesOn_0 24 rfl rfl
theorem dksX4_goesOn_2 : cX4_goesOn.data.toList.drop 48 = dktX4_goesOn_2 := dk_seg dksX4_goesOn_1 24 rfl rfl
theorem dksX4_goesOn_3 : cX4_goesOn.data.toList.drop 70 = dktX4_goesOn_3 := dk_seg dksX4_goesOn_2 22 rfl rfl
theorem dksX4_goesOn_4 : cX4_goesOn.data.toList.drop 94 = dktX4_goesOn_4 := dk_seg dksX4_goesOn_3 24 rfl rfl
theorem dX4_goesOn_0 : decode cX4_goesOn 0 = .ok (.aload_n 0, 1) := dk_42 (dk_at dksX4_goesOn_0 0 rfl rfl)
theorem dX4_goesOn_1 : decode cX4_goesOn 1 = .ok (.iload_n 1, 1) := dk_27 (dk_at dksX4_goesOn_0 1 rfl rfl)
theorem dX4_goesOn_2 : decode cX4_goesOn 2 = .ok (.iload_n 2, 1) := dk_28 (dk_at dksX4_goesOn_0 2 rfl rfl)
theorem dX4_goesOn_3 : decode cX4_goesOn 3 = .ok (.invokevirtual 523, 3) := dk_182 2 11 (dk_at dksX4_goesOn_0 3 rfl rfl)
theorem dX4_goesOn_6 : decode cX4_goesOn 6 = .ok (.istore 4, 2) := dk_54 4 (dk_at dksX4_goesOn_0 6 rfl rfl)
theorem dX4_goesOn_8 : decode cX4_goesOn 8 = .ok (.iload_n 3, 1) := dk_29 (dk_at dksX4_goesOn_0 8 rfl rfl)
theorem dX4_goesOn_9 : decode cX4_goesOn 9 = .ok (.ifCond .ne 9, 3) := dk_154 0 9 (dk_at dksX4_goesOn_0 9 rfl rfl)
theorem dX4_goesOn_12 : decode cX4_goesOn 12 = .ok (.iload_n 1, 1) := dk_27 (dk_at dksX4_goesOn_0 12 rfl rfl)
theorem dX4_goesOn_13 : decode cX4_goesOn 13 = .ok (.iconst 1, 1) := dk_4 (dk_at dksX4_goesOn_0 13 rfl rfl)
theorem dX4_goesOn_14 : decode cX4_goesOn 14 = .ok (.isub, 1) := dk_100 (dk_at dksX4_goesOn_0 14 rfl rfl)
theorem dX4_goesOn_15 : decode cX4_goesOn 15 = .ok (.goto 15, 3) := dk_167 0 15 (dk_at dksX4_goesOn_0 15 rfl rfl)
theorem dX4_goesOn_18 : decode cX4_goesOn 18 = .ok (.iload_n 3, 1) := dk_29 (dk_at dksX4_goesOn_0 18 rfl rfl)
theorem dX4_goesOn_19 : decode cX4_goesOn 19 = .ok (.iconst 1, 1) := dk_4 (dk_at dksX4_goesOn_0 19 rfl rfl)
theorem dX4_goesOn_20 : decode cX4_goesOn 20 = .ok (.if_icmp .ne 9, 3) := dk_160 0 9 (dk_at dksX4_goesOn_0 20 rfl rfl)
theorem dX4_goesOn_23 : decode cX4_goesOn 23 = .ok (.iload_n 1, 1) := dk_27 (dk_at dksX4_goesOn_0 23 rfl rfl)
theorem dX4_goesOn_24 : decode cX4_goesOn 24 = .ok (.iconst 1, 1) := dk_4 (dk_at dksX4_goesOn_1 0 rfl rfl)
theorem dX4_goesOn_25 : decode cX4_goesOn 25 = .ok (.iadd, 1) := dk_96 (dk_at dksX4_goesOn_1 1 rfl rfl)
theorem dX4_goesOn_26 : decode cX4_goesOn 26 = .ok (.goto 4, 3) := dk_167 0 4 (dk_at dksX4_goesOn_1 2 rfl rfl)
theorem dX4_goesOn_29 : decode cX4_goesOn 29 = .ok (.iload_n 1, 1) := dk_27 (dk_at dksX4_goesOn_1 5 rfl rfl)
theorem dX4_goesOn_30 : decode cX4_goesOn 30 = .ok (.istore 5, 2) := dk_54 5 (dk_at dksX4_goesOn_1 6 rfl rfl)
theorem dX4_goesOn_32 : decode cX4_goesOn 32 = .ok (.iload_n 3, 1) := dk_29 (dk_at dksX4_goesOn_1 8 rfl rfl)
theorem dX4_goesOn_33 : decode cX4_goesOn 33 = .ok (.iconst 2, 1) := dk_5 (dk_at dksX4_goesOn_1 9 rfl rfl)
theorem dX4_goesOn_34 : decode cX4_goesOn 34 = .ok (.if_icmp .ne 9, 3) := dk_160 0 9 (dk_at dksX4_goesOn_1 10 rfl rfl)
theorem dX4_goesOn_37 : decode cX4_goesOn 37 = .ok (.iload_n 2, 1) := dk_28 (dk_at dksX4_goesOn_1 13 rfl rfl)
theorem dX4_goesOn_38 : decode cX4_goesOn 38 = .ok (.iconst 1, 1) := dk_4 (dk_at dksX4_goesOn_1 14 rfl rfl)
theorem dX4_goesOn_39 : decode cX4_goesOn 39 = .ok (.iadd, 1) := dk_96 (dk_at dksX4_goesOn_1 15 rfl rfl)
theorem dX4_goesOn_40 : decode cX4_goesOn 40 = .ok (.goto 15, 3) := dk_167 0 15 (dk_at dksX4_goesOn_1 16 rfl rfl)
theorem dX4_goesOn_43 : decode cX4_goesOn 43 = .ok (.iload_n 3, 1) := dk_29 (dk_at dksX4_goesOn_1 19 rfl rfl)
theorem dX4_goesOn_44 : decode cX4_goesOn 44 = .ok (.iconst 3, 1) := dk_6 (dk_at dksX4_goesOn_1 20 rfl rfl)
theorem dX4_goesOn_45 : decode cX4_goesOn 45 = .ok (.if_icmp .ne 9, 3) := dk_160 0 9 (dk_at dksX4_goesOn_1 21 rfl rfl)
theorem dX4_goesOn_48 : decode cX4_goesOn 48 = .ok (.iload_n 2, 1) := dk_28 (dk_at dksX4_goesOn_2 0 rfl rfl)
theorem dX4_goesOn_49 : decode cX4_goesOn 49 = .ok (.iconst 1, 1) := dk_4 (dk_at dksX4_goesOn_2 1 rfl rfl)
theorem dX4_goesOn_50 : decode cX4_goesOn 50 = .ok (.isub, 1) := dk_100 (dk_at dksX4_goesOn_2 2 rfl rfl)
theorem dX4_goesOn_51 : decode cX4_goesOn 51 = .ok (.goto 4, 3) := dk_167 0 4 (dk_at dksX4_goesOn_2 3 rfl rfl)
theorem dX4_goesOn_54 : decode cX4_goesOn 54 = .ok (.iload_n 2, 1) := dk_28 (dk_at dksX4_goesOn_2 6 rfl rfl)
theorem dX4_goesOn_55 : decode cX4_goesOn 55 = .ok (.istore 6, 2) := dk_54 6 (dk_at dksX4_goesOn_2 7 rfl rfl)
theorem dX4_goesOn_57 : decode cX4_goesOn 57 = .ok (.iload 4, 2) := dk_21 4 (dk_at dksX4_goesOn_2 9 rfl rfl)
theorem dX4_goesOn_59 : decode cX4_goesOn 59 = .ok (.ifCond .lt 25, 3) := dk_155 0 25 (dk_at dksX4_goesOn_2 11 rfl rfl)
theorem dX4_goesOn_62 : decode cX4_goesOn 62 = .ok (.aload_n 0, 1) := dk_42 (dk_at dksX4_goesOn_2 14 rfl rfl)
theorem dX4_goesOn_63 : decode cX4_goesOn 63 = .ok (.iload 5, 2) := dk_21 5 (dk_at dksX4_goesOn_2 15 rfl rfl)
theorem dX4_goesOn_65 : decode cX4_goesOn 65 = .ok (.iload 6, 2) := dk_21 6 (dk_at dksX4_goesOn_2 17 rfl rfl)
theorem dX4_goesOn_67 : decode cX4_goesOn 67 = .ok (.invokevirtual 526, 3) := dk_182 2 14 (dk_at dksX4_goesOn_2 19 rfl rfl)
theorem dX4_goesOn_70 : decode cX4_goesOn 70 = .ok (.ifCond .eq 14, 3) := dk_153 0 14 (dk_at dksX4_goesOn_3 0 rfl rfl)
theorem dX4_goesOn_73 : decode cX4_goesOn 73 = .ok (.aload_n 0, 1) := dk_42 (dk_at dksX4_goesOn_3 3 rfl rfl)
theorem dX4_goesOn_74 : decode cX4_goesOn 74 = .ok (.iload 5, 2) := dk_21 5 (dk_at dksX4_goesOn_3 4 rfl rfl)
theorem dX4_goesOn_76 : decode cX4_goesOn 76 = .ok (.iload 6, 2) := dk_21 6 (dk_at dksX4_goesOn_3 6 rfl rfl)
theorem dX4_goesOn_78 : decode cX4_goesOn 78 = .ok (.invokevirtual 523, 3) := dk_182 2 11 (dk_at dksX4_goesOn_3 8 rfl rfl)
theorem dX4_goesOn_81 : decode cX4_goesOn 81 = .ok (.ifCond .lt 5, 3) := dk_155 0 5 (dk_at dksX4_goesOn_3 11 rfl rfl)
theorem dX4_goesOn_84 : decode cX4_goesOn 84 = .ok (.iconst 0, 1) := dk_3 (dk_at dksX4_goesOn_3 14 rfl rfl)
theorem dX4_goesOn_85 : decode cX4_goesOn 85 = .ok (.ireturn, 1) := dk_172 (dk_at dksX4_goesOn_3 15 rfl rfl)
theorem dX4_goesOn_86 : decode cX4_goesOn 86 = .ok (.aload_n 0, 1) := dk_42 (dk_at dksX4_goesOn_3 16 rfl rfl)
theorem dX4_goesOn_87 : decode cX4_goesOn 87 = .ok (.getfield 121, 3) := dk_180 0 121 (dk_at dksX4_goesOn_3 17 rfl rfl)
theorem dX4_goesOn_90 : decode cX4_goesOn 90 = .ok (.iconst 5, 1) := dk_8 (dk_at dksX4_goesOn_3 20 rfl rfl)
theorem dX4_goesOn_91 : decode cX4_goesOn 91 = .ok (.iload 4, 2) := dk_21 4 (dk_at dksX4_goesOn_3 21 rfl rfl)
theorem dX4_goesOn_93 : decode cX4_goesOn 93 = .ok (.imul, 1) := dk_104 (dk_at dksX4_goesOn_3 23 rfl rfl)
theorem dX4_goesOn_94 : decode cX4_goesOn 94 = .ok (.iload 5, 2) := dk_21 5 (dk_at dksX4_goesOn_4 0 rfl rfl)
theorem dX4_goesOn_96 : decode cX4_goesOn 96 = .ok (.iastore, 1) := dk_79 (dk_at dksX4_goesOn_4 2 rfl rfl)
theorem dX4_goesOn_97 : decode cX4_goesOn 97 = .ok (.aload_n 0, 1) := dk_42 (dk_at dksX4_goesOn_4 3 rfl rfl)
theorem dX4_goesOn_98 : decode cX4_goesOn 98 = .ok (.getfield 121, 3) := dk_180 0 121 (dk_at dksX4_goesOn_4 4 rfl rfl)
theorem dX4_goesOn_101 : decode cX4_goesOn 101 = .ok (.iconst 5, 1) := dk_8 (dk_at dksX4_goesOn_4 7 rfl rfl)
theorem dX4_goesOn_102 : decode cX4_goesOn 102 = .ok (.iload 4, 2) := dk_21 4 (dk_at dksX4_goesOn_4 8 rfl rfl)
theorem dX4_goesOn_104 : decode cX4_goesOn 104 = .ok (.imul, 1) := dk_104 (dk_at dksX4_goesOn_4 10 rfl rfl)
theorem dX4_goesOn_105 : decode cX4_goesOn 105 = .ok (.iconst 1, 1) := dk_4 (dk_at dksX4_goesOn_4 11 rfl rfl)
theorem dX4_goesOn_106 : decode cX4_goesOn 106 = .ok (.iadd, 1) := dk_96 (dk_at dksX4_goesOn_4 12 rfl rfl)
theorem dX4_goesOn_107 : decode cX4_goesOn 107 = .ok (.iload 6, 2) := dk_21 6 (dk_at dksX4_goesOn_4 13 rfl rfl)
theorem dX4_goesOn_109 : decode cX4_goesOn 109 = .ok (.iastore, 1) := dk_79 (dk_at dksX4_goesOn_4 15 rfl rfl)
theorem dX4_goesOn_110 : decode cX4_goesOn 110 = .ok (.iconst 1, 1) := dk_4 (dk_at dksX4_goesOn_4 16 rfl rfl)
theorem dX4_goesOn_111 : decode cX4_goesOn 111 = .ok (.ireturn, 1) := dk_172 (dk_at dksX4_goesOn_4 17 rfl rfl)
abbrev cX4_party : ByteArray := prog_23_method_91_code
def yX4_party : MethodName := ⟨RX4, "party", "(I)I"⟩
def dkwX4_party_3 : List UInt8 := [167, 255, 220, 132, 3, 1, 167, 255, 206, 42, 182, 1, 223, 28, 172]
abbrev dktX4_party_3 : List UInt8 := dkwX4_party_3 ++ []
def dkwX4_party_2 : List UInt8 := [180, 0, 112, 21, 4, 46, 182, 2, 72, 153, 0, 7, 4, 167, 0, 4, 3, 96, 61, 132, 4, 1]
abbrev dktX4_party_2 : List UInt8 := dkwX4_party_2 ++ dktX4_party_3
def dkwX4_party_1 : List UInt8 := [29, 27, 162, 0, 51, 3, 54, 4, 21, 4, 42, 180, 1, 214, 162, 0, 33, 28, 42, 21, 4, 42]
abbrev dktX4_party_1 : List UInt8 := dkwX4_party_1 ++ dktX4_party_2
def dkwX4_party_0 : List UInt8 := [27, 3, 16, 20, 184, 1, 238, 154, 0, 5, 2, 172, 42, 182, 2, 63, 42, 182, 2, 54, 3, 61, 3, 62]
abbrev dktX4_party_0 : List UInt8 := dkwX4_party_0 ++ dktX4_party_1
theorem dksX4_party_0 : cX4_party.data.toList.drop 0 = dktX4_party_0 := by decide +kernel
theorem dksX4_party_1 : cX4_party.data.toList.drop 24 = dktX4_party_1 := dk_seg dksX4_party_0 24 rfl rfl
theorem dksX4_party_2 : cX4_party.data.toList.drop 46 = dktX4_party_2 := dk_seg dksX4_party_1 22 rfl rfl
theorem dksX4_party_3 : cX4_party.data.toList.drop 68 = dktX4_party_3 := dk_seg dksX4_party_2 22 rfl rfl
theorem dX4_party_0 : decode cX4_party 0 = .ok (.iload_n 1, 1) := dk_27 (dk_at dksX4_party_0 0 rfl rfl)
theorem dX4_party_1 : decode cX4_party 1 = .ok (.iconst 0, 1) := dk_3 (dk_at dksX4_party_0 1 rfl rfl)
theorem dX4_party_2 : decode cX4_party 2 = .ok (.bipush 20, 2) := dk_16 20 (dk_at dksX4_party_0 2 rfl rfl)
theorem dX4_party_4 : decode cX4_party 4 = .ok (.invokestatic 494, 3) := dk_184 1 238 (dk_at dksX4_party_0 4 rfl rfl)
theorem dX4_party_7 : decode cX4_party 7 = .ok (.ifCond .ne 5, 3) := dk_154 0 5 (dk_at dksX4_party_0 7 rfl rfl)
theorem dX4_party_10 : decode cX4_party 10 = .ok (.iconst (-1), 1) := dk_2 (dk_at dksX4_party_0 10 rfl rfl)
theorem dX4_party_11 : decode cX4_party 11 = .ok (.ireturn, 1) := dk_172 (dk_at dksX4_party_0 11 rfl rfl)
theorem dX4_party_12 : decode cX4_party 12 = .ok (.aload_n 0, 1) := dk_42 (dk_at dksX4_party_0 12 rfl rfl)
theorem dX4_party_13 : decode cX4_party 13 = .ok (.invokevirtual 575, 3) := dk_182 2 63 (dk_at dksX4_party_0 13 rfl rfl)
theorem dX4_party_16 : decode cX4_party 16 = .ok (.aload_n 0, 1) := dk_42 (dk_at dksX4_party_0 16 rfl rfl)
theorem dX4_party_17 : decode cX4_party 17 = .ok (.invokevirtual 566, 3) := dk_182 2 54 (dk_at dksX4_party_0 17 rfl rfl)
theorem dX4_party_20 : decode cX4_party 20 = .ok (.iconst 0, 1) := dk_3 (dk_at dksX4_party_0 20 rfl rfl)
theorem dX4_party_21 : decode cX4_party 21 = .ok (.istore_n 2, 1) := dk_61 (dk_at dksX4_party_0 21 rfl rfl)
theorem dX4_party_22 : decode cX4_party 22 = .ok (.iconst 0, 1) := dk_3 (dk_at dksX4_party_0 22 rfl rfl)
theorem dX4_party_23 : decode cX4_party 23 = .ok (.istore_n 3, 1) := dk_62 (dk_at dksX4_party_0 23 rfl rfl)
theorem dX4_party_24 : decode cX4_party 24 = .ok (.iload_n 3, 1) := dk_29 (dk_at dksX4_party_1 0 rfl rfl)
theorem dX4_party_25 : decode cX4_party 25 = .ok (.iload_n 1, 1) := dk_27 (dk_at dksX4_party_1 1 rfl rfl)
theorem dX4_party_26 : decode cX4_party 26 = .ok (.if_icmp .ge 51, 3) := dk_162 0 51 (dk_at dksX4_party_1 2 rfl rfl)
theorem dX4_party_29 : decode cX4_party 29 = .ok (.iconst 0, 1) := dk_3 (dk_at dksX4_party_1 5 rfl rfl)
theorem dX4_party_30 : decode cX4_party 30 = .ok (.istore 4, 2) := dk_54 4 (dk_at dksX4_party_1 6 rfl rfl)
theorem dX4_party_32 : decode cX4_party 32 = .ok (.iload 4, 2) := dk_21 4 (dk_at dksX4_party_1 8 rfl rfl)
theorem dX4_party_34 : decode cX4_party 34 = .ok (.aload_n 0, 1) := dk_42 (dk_at dksX4_party_1 10 rfl rfl)
theorem dX4_party_35 : decode cX4_party 35 = .ok (.getfield 470, 3) := dk_180 1 214 (dk_at dksX4_party_1 11 rfl rfl)
theorem dX4_party_38 : decode cX4_party 38 = .ok (.if_icmp .ge 33, 3) := dk_162 0 33 (dk_at dksX4_party_1 14 rfl rfl)
theorem dX4_party_41 : decode cX4_party 41 = .ok (.iload_n 2, 1) := dk_28 (dk_at dksX4_party_1 17 rfl rfl)
theorem dX4_party_42 : decode cX4_party 42 = .ok (.aload_n 0, 1) := dk_42 (dk_at dksX4_party_1 18 rfl rfl)
theorem dX4_party_43 : decode cX4_party 43 = .ok (.iload 4, 2) := dk_21 4 (dk_at dksX4_party_1 19 rfl rfl)
theorem dX4_party_45 : decode cX4_party 45 = .ok (.aload_n 0, 1) := dk_42 (dk_at dksX4_party_1 21 rfl rfl)
theorem dX4_party_46 : decode cX4_party 46 = .ok (.getfield 112, 3) := dk_180 0 112 (dk_at dksX4_party_2 0 rfl rfl)
theorem dX4_party_49 : decode cX4_party 49 = .ok (.iload 4, 2) := dk_21 4 (dk_at dksX4_party_2 3 rfl rfl)
theorem dX4_party_51 : decode cX4_party 51 = .ok (.iaload, 1) := dk_46 (dk_at dksX4_party_2 5 rfl rfl)
theorem dX4_party_52 : decode cX4_party 52 = .ok (.invokevirtual 584, 3) := dk_182 2 72 (dk_at dksX4_party_2 6 rfl rfl)
theorem dX4_party_55 : decode cX4_party 55 = .ok (.ifCond .eq 7, 3) := dk_153 0 7 (dk_at dksX4_party_2 9 rfl rfl)
theorem dX4_party_58 : decode cX4_party 58 = .ok (.iconst 1, 1) := dk_4 (dk_at dksX4_party_2 12 rfl rfl)
theorem dX4_party_59 : decode cX4_party 59 = .ok (.goto 4, 3) := dk_167 0 4 (dk_at dksX4_party_2 13 rfl rfl)
theorem dX4_party_62 : decode cX4_party 62 = .ok (.iconst 0, 1) := dk_3 (dk_at dksX4_party_2 16 rfl rfl)
theorem dX4_party_63 : decode cX4_party 63 = .ok (.iadd, 1) := dk_96 (dk_at dksX4_party_2 17 rfl rfl)
theorem dX4_party_64 : decode cX4_party 64 = .ok (.istore_n 2, 1) := dk_61 (dk_at dksX4_party_2 18 rfl rfl)
theorem dX4_party_65 : decode cX4_party 65 = .ok (.iinc 4 1, 3) := dk_132 4 1 (dk_at dksX4_party_2 19 rfl rfl)
theorem dX4_party_68 : decode cX4_party 68 = .ok (.goto (-36), 3) := dk_167 255 220 (dk_at dksX4_party_3 0 rfl rfl)
theorem dX4_party_71 : decode cX4_party 71 = .ok (.iinc 3 1, 3) := dk_132 3 1 (dk_at dksX4_party_3 3 rfl rfl)
theorem dX4_party_74 : decode cX4_party 74 = .ok (.goto (-50), 3) := dk_167 255 206 (dk_at dksX4_party_3 6 rfl rfl)
theorem dX4_party_77 : decode cX4_party 77 = .ok (.aload_n 0, 1) := dk_42 (dk_at dksX4_party_3 9 rfl rfl)
theorem dX4_party_78 : decode cX4_party 78 = .ok (.invokevirtual 479, 3) := dk_182 1 223 (dk_at dksX4_party_3 10 rfl rfl)
theorem dX4_party_81 : decode cX4_party 81 = .ok (.iload_n 2, 1) := dk_28 (dk_at dksX4_party_3 13 rfl rfl)
theorem dX4_party_82 : decode cX4_party 82 = .ok (.ireturn, 1) := dk_172 (dk_at dksX4_party_3 14 rfl rfl)
abbrev cX4_actsBy : ByteArray := prog_23_method_76_code
def yX4_actsBy : MethodName := ⟨RX4, "actsBy", "(II)Z"⟩
def dkwX4_actsBy_1 : List UInt8 := [27, 182, 2, 45, 3, 172]
abbrev dktX4_actsBy_1 : List UInt8 := dkwX4_actsBy_1 ++ []
def dkwX4_actsBy_0 : List UInt8 := [42, 27, 28, 182, 2, 39, 62, 29, 155, 0, 15, 42, 27, 29, 8, 108, 29, 8, 112, 182, 2, 42, 172, 42]
abbrev dktX4_actsBy_0 : List UInt8 := dkwX4_actsBy_0 ++ dktX4_actsBy_1
theorem dksX4_actsBy_0 : cX4_actsBy.data.toList.drop 0 = dktX4_actsBy_0 := by decide +kernel
theorem dksX4_actsBy_1 : cX4_actsBy.data.toList.drop 24 = dktX4_actsBy_1 := dk_seg dksX4_actsBy_0 24 rfl rfl
theorem dX4_actsBy_0 : decode cX4_actsBy 0 = .ok (.aload_n 0, 1) := dk_42 (dk_at dksX4_actsBy_0 0 rfl rfl)
theorem dX4_actsBy_1 : decode cX4_actsBy 1 = .ok (.iload_n 1, 1) := dk_27 (dk_at dksX4_actsBy_0 1 rfl rfl)
theorem dX4_actsBy_2 : decode cX4_actsBy 2 = .ok (.iload_n 2, 1) := dk_28 (dk_at dksX4_actsBy_0 2 rfl rfl)
theorem dX4_actsBy_3 : decode cX4_actsBy 3 = .ok (.invokevirtual 551, 3) := dk_182 2 39 (dk_at dksX4_actsBy_0 3 rfl rfl)
theorem dX4_actsBy_6 : decode cX4_actsBy 6 = .ok (.istore_n 3, 1) := dk_62 (dk_at dksX4_actsBy_0 6 rfl rfl)
theorem dX4_actsBy_7 : decode cX4_actsBy 7 = .ok (.iload_n 3, 1) := dk_29 (dk_at dksX4_actsBy_0 7 rfl rfl)
theorem dX4_actsBy_8 : decode cX4_actsBy 8 = .ok (.ifCond .lt 15, 3) := dk_155 0 15 (dk_at dksX4_actsBy_0 8 rfl rfl)
theorem dX4_actsBy_11 : decode cX4_actsBy 11 = .ok (.aload_n 0, 1) := dk_42 (dk_at dksX4_actsBy_0 11 rfl rfl)
theorem dX4_actsBy_12 : decode cX4_actsBy 12 = .ok (.iload_n 1, 1) := dk_27 (dk_at dksX4_actsBy_0 12 rfl rfl)
theorem dX4_actsBy_13 : decode cX4_actsBy 13 = .ok (.iload_n 3, 1) := dk_29 (dk_at dksX4_actsBy_0 13 rfl rfl)
theorem dX4_actsBy_14 : decode cX4_actsBy 14 = .ok (.iconst 5, 1) := dk_8 (dk_at dksX4_actsBy_0 14 rfl rfl)
theorem dX4_actsBy_15 : decode cX4_actsBy 15 = .ok (.idiv, 1) := dk_108 (dk_at dksX4_actsBy_0 15 rfl rfl)
theorem dX4_actsBy_16 : decode cX4_actsBy 16 = .ok (.iload_n 3, 1) := dk_29 (dk_at dksX4_actsBy_0 16 rfl rfl)
theorem dX4_actsBy_17 : decode cX4_actsBy 17 = .ok (.iconst 5, 1) := dk_8 (dk_at dksX4_actsBy_0 17 rfl rfl)
theorem dX4_actsBy_18 : decode cX4_actsBy 18 = .ok (.irem, 1) := dk_112 (dk_at dksX4_actsBy_0 18 rfl rfl)
theorem dX4_actsBy_19 : decode cX4_actsBy 19 = .ok (.invokevirtual 554, 3) := dk_182 2 42 (dk_at dksX4_actsBy_0 19 rfl rfl)
theorem dX4_actsBy_22 : decode cX4_actsBy 22 = .ok (.ireturn, 1) := dk_172 (dk_at dksX4_actsBy_0 22 rfl rfl)
theorem dX4_actsBy_23 : decode cX4_actsBy 23 = .ok (.aload_n 0, 1) := dk_42 (dk_at dksX4_actsBy_0 23 rfl rfl)
theorem dX4_actsBy_24 : decode cX4_actsBy 24 = .ok (.iload_n 1, 1) := dk_27 (dk_at dksX4_actsBy_1 0 rfl rfl)
theorem dX4_actsBy_25 : decode cX4_actsBy 25 = .ok (.invokevirtual 557, 3) := dk_182 2 45 (dk_at dksX4_actsBy_1 1 rfl rfl)
theorem dX4_actsBy_28 : decode cX4_actsBy 28 = .ok (.iconst 0, 1) := dk_3 (dk_at dksX4_actsBy_1 4 rfl rfl)
theorem dX4_actsBy_29 : decode cX4_actsBy 29 = .ok (.ireturn, 1) := dk_172 (dk_at dksX4_actsBy_1 5 rfl rfl)
abbrev cX4_undo : ByteArray := prog_23_method_92_code
def yX4_undo : MethodName := ⟨RX4, "undo", "()Z"⟩
def dkwX4_undo_1 : List UInt8 := [4, 96, 181, 1, 229, 42, 17, 0, 128, 42, 180, 1, 226, 104, 182, 2, 75, 4, 172]
abbrev dktX4_undo_1 : List UInt8 := dkwX4_undo_1 ++ []
def dkwX4_undo_0 : List UInt8 := [42, 180, 1, 226, 154, 0, 5, 3, 172, 42, 89, 180, 1, 226, 4, 100, 181, 1, 226, 42, 89, 180, 1, 229]
abbrev dktX4_undo_0 : List UInt8 := dkwX4_undo_0 ++ dktX4_undo_1
theorem dksX4_undo_0 : cX4_undo.data.toList.drop 0 = dktX4_undo_0 := by decide +kernel
theorem dksX4_undo_1 : cX4_undo.data.toList.drop 24 = dktX4_undo_1 := dk_seg dksX4_undo_0 24 rfl rfl
theorem dX4_undo_0 : decode cX4_undo 0 = .ok (.aload_n 0, 1) := dk_42 (dk_at dksX4_undo_0 0 rfl rfl)
theorem dX4_undo_1 : decode cX4_undo 1 = .ok (.getfield 482, 3) := dk_180 1 226 (dk_at dksX4_undo_0 1 rfl rfl)
theorem dX4_undo_4 : decode cX4_undo 4 = .ok (.ifCond .ne 5, 3) := dk_154 0 5 (dk_at dksX4_undo_0 4 rfl rfl)
theorem dX4_undo_7 : decode cX4_undo 7 = .ok (.iconst 0, 1) := dk_3 (dk_at dksX4_undo_0 7 rfl rfl)
theorem dX4_undo_8 : decode cX4_undo 8 = .ok (.ireturn, 1) := dk_172 (dk_at dksX4_undo_0 8 rfl rfl)
theorem dX4_undo_9 : decode cX4_undo 9 = .ok (.aload_n 0, 1) := dk_42 (dk_at dksX4_undo_0 9 rfl rfl)
theorem dX4_undo_10 : decode cX4_undo 10 = .ok (.dup, 1) := dk_89 (dk_at dksX4_undo_0 10 rfl rfl)
theorem dX4_undo_11 : decode cX4_undo 11 = .ok (.getfield 482, 3) := dk_180 1 226 (dk_at dksX4_undo_0 11 rfl rfl)
theorem dX4_undo_14 : decode cX4_undo 14 = .ok (.iconst 1, 1) := dk_4 (dk_at dksX4_undo_0 14 rfl rfl)
theorem dX4_undo_15 : decode cX4_undo 15 = .ok (.isub, 1) := dk_100 (dk_at dksX4_undo_0 15 rfl rfl)
theorem dX4_undo_16 : decode cX4_undo 16 = .ok (.putfield 482, 3) := dk_181 1 226 (dk_at dksX4_undo_0 16 rfl rfl)
theorem dX4_undo_19 : decode cX4_undo 19 = .ok (.aload_n 0, 1) := dk_42 (dk_at dksX4_undo_0 19 rfl rfl)
theorem dX4_undo_20 : decode cX4_undo 20 = .ok (.dup, 1) := dk_89 (dk_at dksX4_undo_0 20 rfl rfl)
theorem dX4_undo_21 : decode cX4_undo 21 = .ok (.getfield 485, 3) := dk_180 1 229 (dk_at dksX4_undo_0 21 rfl rfl)
theorem dX4_undo_24 : decode cX4_undo 24 = .ok (.iconst 1, 1) := dk_4 (dk_at dksX4_undo_1 0 rfl rfl)
theorem dX4_undo_25 : decode cX4_undo 25 = .ok (.iadd, 1) := dk_96 (dk_at dksX4_undo_1 1 rfl rfl)
theorem dX4_undo_26 : decode cX4_undo 26 = .ok (.putfield 485, 3) := dk_181 1 229 (dk_at dksX4_undo_1 2 rfl rfl)
theorem dX4_undo_29 : decode cX4_undo 29 = .ok (.aload_n 0, 1) := dk_42 (dk_at dksX4_undo_1 5 rfl rfl)
theorem dX4_undo_30 : decode cX4_undo 30 = .ok (.sipush 128, 3) := dk_17 0 128 (dk_at dksX4_undo_1 6 rfl rfl)
theorem dX4_undo_33 : decode cX4_undo 33 = .ok (.aload_n 0, 1) := dk_42 (dk_at dksX4_undo_1 9 rfl rfl)
theorem dX4_undo_34 : decode cX4_undo 34 = .ok (.getfield 482, 3) := dk_180 1 226 (dk_at dksX4_undo_1 10 rfl rfl)
theorem dX4_undo_37 : decode cX4_undo 37 = .ok (.imul, 1) := dk_104 (dk_at dksX4_undo_1 13 rfl rfl)
theorem dX4_undo_38 : decode cX4_undo 38 = .ok (.invokevirtual 587, 3) := dk_182 2 75 (dk_at dksX4_undo_1 14 rfl rfl)
theorem dX4_undo_41 : decode cX4_undo 41 = .ok (.iconst 1, 1) := dk_4 (dk_at dksX4_undo_1 17 rfl rfl)
theorem dX4_undo_42 : decode cX4_undo 42 = .ok (.ireturn, 1) := dk_172 (dk_at dksX4_undo_1 18 rfl rfl)
abbrev cX4_exchange : ByteArray := prog_23_method_85_code
def yX4_exchange : MethodName := ⟨RX4, "exchange", "(I)V"⟩
def dkwX4_exchange_1 : List UInt8 := [42, 180, 0, 124, 28, 46, 79, 42, 180, 0, 124, 28, 29, 79, 132, 2, 1, 167, 255, 217, 177]
abbrev dktX4_exchange_1 : List UInt8 := dkwX4_exchange_1 ++ []
def dkwX4_exchange_0 : List UInt8 := [3, 61, 28, 16, 123, 162, 0, 39, 42, 180, 0, 127, 27, 28, 96, 46, 62, 42, 180, 0, 127, 27, 28, 96]
abbrev dktX4_exchange_0 : List UInt8 := dkwX4_exchange_0 ++ dktX4_exchange_1
theorem dksX4_exchange_0 : cX4_exchange.data.toList.drop 0 = dktX4_exchange_0 := by decide +kernel
theorem dksX4_exchange_1 : cX4_exchange.data.toList.drop 24 = dktX4_exchange_1 := dk_seg dksX4_exchange_0 24 rfl rfl
theorem dX4_exchange_0 : decode cX4_exchange 0 = .ok (.iconst 0, 1) := dk_3 (dk_at dksX4_exchange_0 0 rfl rfl)
theorem dX4_exchange_1 : decode cX4_exchange 1 = .ok (.istore_n 2, 1) := dk_61 (dk_at dksX4_exchange_0 1 rfl rfl)
theorem dX4_exchange_2 : decode cX4_exchange 2 = .ok (.iload_n 2, 1) := dk_28 (dk_at dksX4_exchange_0 2 rfl rfl)
theorem dX4_exchange_3 : decode cX4_exchange 3 = .ok (.bipush 123, 2) := dk_16 123 (dk_at dksX4_exchange_0 3 rfl rfl)
theorem dX4_exchange_5 : decode cX4_exchange 5 = .ok (.if_icmp .ge 39, 3) := dk_162 0 39 (dk_at dksX4_exchange_0 5 rfl rfl)
theorem dX4_exchange_8 : decode cX4_exchange 8 = .ok (.aload_n 0, 1) := dk_42 (dk_at dksX4_exchange_0 8 rfl rfl)
theorem dX4_exchange_9 : decode cX4_exchange 9 = .ok (.getfield 127, 3) := dk_180 0 127 (dk_at dksX4_exchange_0 9 rfl rfl)
theorem dX4_exchange_12 : decode cX4_exchange 12 = .ok (.iload_n 1, 1) := dk_27 (dk_at dksX4_exchange_0 12 rfl rfl)
theorem dX4_exchange_13 : decode cX4_exchange 13 = .ok (.iload_n 2, 1) := dk_28 (dk_at dksX4_exchange_0 13 rfl rfl)
theorem dX4_exchange_14 : decode cX4_exchange 14 = .ok (.iadd, 1) := dk_96 (dk_at dksX4_exchange_0 14 rfl rfl)
theorem dX4_exchange_15 : decode cX4_exchange 15 = .ok (.iaload, 1) := dk_46 (dk_at dksX4_exchange_0 15 rfl rfl)
theorem dX4_exchange_16 : decode cX4_exchange 16 = .ok (.istore_n 3, 1) := dk_62 (dk_at dksX4_exchange_0 16 rfl rfl)
theorem dX4_exchange_17 : decode cX4_exchange 17 = .ok (.aload_n 0, 1) := dk_42 (dk_at dksX4_exchange_0 17 rfl rfl)
theorem dX4_exchange_18 : decode cX4_exchange 18 = .ok (.getfield 127, 3) := dk_180 0 127 (dk_at dksX4_exchange_0 18 rfl rfl)
theorem dX4_exchange_21 : decode cX4_exchange 21 = .ok (.iload_n 1, 1) := dk_27 (dk_at dksX4_exchange_0 21 rfl rfl)
theorem dX4_exchange_22 : decode cX4_exchange 22 = .ok (.iload_n 2, 1) := dk_28 (dk_at dksX4_exchange_0 22 rfl rfl)
theorem dX4_exchange_23 : decode cX4_exchange 23 = .ok (.iadd, 1) := dk_96 (dk_at dksX4_exchange_0 23 rfl rfl)
theorem dX4_exchange_24 : decode cX4_exchange 24 = .ok (.aload_n 0, 1) := dk_42 (dk_at dksX4_exchange_1 0 rfl rfl)
theorem dX4_exchange_25 : decode cX4_exchange 25 = .ok (.getfield 124, 3) := dk_180 0 124 (dk_at dksX4_exchange_1 1 rfl rfl)
theorem dX4_exchange_28 : decode cX4_exchange 28 = .ok (.iload_n 2, 1) := dk_28 (dk_at dksX4_exchange_1 4 rfl rfl)
theorem dX4_exchange_29 : decode cX4_exchange 29 = .ok (.iaload, 1) := dk_46 (dk_at dksX4_exchange_1 5 rfl rfl)
theorem dX4_exchange_30 : decode cX4_exchange 30 = .ok (.iastore, 1) := dk_79 (dk_at dksX4_exchange_1 6 rfl rfl)
theorem dX4_exchange_31 : decode cX4_exchange 31 = .ok (.aload_n 0, 1) := dk_42 (dk_at dksX4_exchange_1 7 rfl rfl)
theorem dX4_exchange_32 : decode cX4_exchange 32 = .ok (.getfield 124, 3) := dk_180 0 124 (dk_at dksX4_exchange_1 8 rfl rfl)
theorem dX4_exchange_35 : decode cX4_exchange 35 = .ok (.iload_n 2, 1) := dk_28 (dk_at dksX4_exchange_1 11 rfl rfl)
theorem dX4_exchange_36 : decode cX4_exchange 36 = .ok (.iload_n 3, 1) := dk_29 (dk_at dksX4_exchange_1 12 rfl rfl)
theorem dX4_exchange_37 : decode cX4_exchange 37 = .ok (.iastore, 1) := dk_79 (dk_at dksX4_exchange_1 13 rfl rfl)
theorem dX4_exchange_38 : decode cX4_exchange 38 = .ok (.iinc 2 1, 3) := dk_132 2 1 (dk_at dksX4_exchange_1 14 rfl rfl)
theorem dX4_exchange_41 : decode cX4_exchange 41 = .ok (.goto (-39), 3) := dk_167 255 217 (dk_at dksX4_exchange_1 17 rfl rfl)
theorem dX4_exchange_44 : decode cX4_exchange 44 = .ok (.return_, 1) := dk_177 (dk_at dksX4_exchange_1 20 rfl rfl)
abbrev cX4_redo : ByteArray := prog_23_method_93_code
def yX4_redo : MethodName := ⟨RX4, "redo", "()Z"⟩
def dkwX4_redo_1 : List UInt8 := [180, 1, 226, 4, 96, 181, 1, 226, 42, 89, 180, 1, 229, 4, 100, 181, 1, 229, 4, 172]
abbrev dktX4_redo_1 : List UInt8 := dkwX4_redo_1 ++ []
def dkwX4_redo_0 : List UInt8 := [42, 180, 1, 229, 154, 0, 5, 3, 172, 42, 17, 0, 128, 42, 180, 1, 226, 104, 182, 2, 75, 42, 89]
abbrev dktX4_redo_0 : List UInt8 := dkwX4_redo_0 ++ dktX4_redo_1
theorem dksX4_redo_0 : cX4_redo.data.toList.drop 0 = dktX4_redo_0 := by decide +kernel
theorem dksX4_redo_1 : cX4_redo.data.toList.drop 23 = dktX4_redo_1 := dk_seg dksX4_redo_0 23 rfl rfl
theorem dX4_redo_0 : decode cX4_redo 0 = .ok (.aload_n 0, 1) := dk_42 (dk_at dksX4_redo_0 0 rfl rfl)
theorem dX4_redo_1 : decode cX4_redo 1 = .ok (.getfield 485, 3) := dk_180 1 229 (dk_at dksX4_redo_0 1 rfl rfl)
theorem dX4_redo_4 : decode cX4_redo 4 = .ok (.ifCond .ne 5, 3) := dk_154 0 5 (dk_at dksX4_redo_0 4 rfl rfl)
theorem dX4_redo_7 : decode cX4_redo 7 = .ok (.iconst 0, 1) := dk_3 (dk_at dksX4_redo_0 7 rfl rfl)
theorem dX4_redo_8 : decode cX4_redo 8 = .ok (.ireturn, 1) := dk_172 (dk_at dksX4_redo_0 8 rfl rfl)
theorem dX4_redo_9 : decode cX4_redo 9 = .ok (.aload_n 0, 1) := dk_42 (dk_at dksX4_redo_0 9 rfl rfl)
theorem dX4_redo_10 : decode cX4_redo 10 = .ok (.sipush 128, 3) := dk_17 0 128 (dk_at dksX4_redo_0 10 rfl rfl)
theorem dX4_redo_13 : decode cX4_redo 13 = .ok (.aload_n 0, 1) := dk_42 (dk_at dksX4_redo_0 13 rfl rfl)
theorem dX4_redo_14 : decode cX4_redo 14 = .ok (.getfield 482, 3) := dk_180 1 226 (dk_at dksX4_redo_0 14 rfl rfl)
theorem dX4_redo_17 : decode cX4_redo 17 = .ok (.imul, 1) := dk_104 (dk_at dksX4_redo_0 17 rfl rfl)
theorem dX4_redo_18 : decode cX4_redo 18 = .ok (.invokevirtual 587, 3) := dk_182 2 75 (dk_at dksX4_redo_0 18 rfl rfl)
theorem dX4_redo_21 : decode cX4_redo 21 = .ok (.aload_n 0, 1) := dk_42 (dk_at dksX4_redo_0 21 rfl rfl)
theorem dX4_redo_22 : decode cX4_redo 22 = .ok (.dup, 1) := dk_89 (dk_at dksX4_redo_0 22 rfl rfl)
theorem dX4_redo_23 : decode cX4_redo 23 = .ok (.getfield 482, 3) := dk_180 1 226 (dk_at dksX4_redo_1 0 rfl rfl)
theorem dX4_redo_26 : decode cX4_redo 26 = .ok (.iconst 1, 1) := dk_4 (dk_at dksX4_redo_1 3 rfl rfl)
theorem dX4_redo_27 : decode cX4_redo 27 = .ok (.iadd, 1) := dk_96 (dk_at dksX4_redo_1 4 rfl rfl)
theorem dX4_redo_28 : decode cX4_redo 28 = .ok (.putfield 482, 3) := dk_181 1 226 (dk_at dksX4_redo_1 5 rfl rfl)
theorem dX4_redo_31 : decode cX4_redo 31 = .ok (.aload_n 0, 1) := dk_42 (dk_at dksX4_redo_1 8 rfl rfl)
theorem dX4_redo_32 : decode cX4_redo 32 = .ok (.dup, 1) := dk_89 (dk_at dksX4_redo_1 9 rfl rfl)
theorem dX4_redo_33 : decode cX4_redo 33 = .ok (.getfield 485, 3) := dk_180 1 229 (dk_at dksX4_redo_1 10 rfl rfl)
theorem dX4_redo_36 : decode cX4_redo 36 = .ok (.iconst 1, 1) := dk_4 (dk_at dksX4_redo_1 13 rfl rfl)
theorem dX4_redo_37 : decode cX4_redo 37 = .ok (.isub, 1) := dk_100 (dk_at dksX4_redo_1 14 rfl rfl)
theorem dX4_redo_38 : decode cX4_redo 38 = .ok (.putfield 485, 3) := dk_181 1 229 (dk_at dksX4_redo_1 15 rfl rfl)
theorem dX4_redo_41 : decode cX4_redo 41 = .ok (.iconst 1, 1) := dk_4 (dk_at dksX4_redo_1 18 rfl rfl)
theorem dX4_redo_42 : decode cX4_redo 42 = .ok (.ireturn, 1) := dk_172 (dk_at dksX4_redo_1 19 rfl rfl)
abbrev cX4_best : ByteArray := prog_23_method_99_code
def yX4_best : MethodName := ⟨RX4, "best", "(III)I"⟩
def dkwX4_best_4 : List UInt8 := [160, 0, 7, 4, 167, 0, 4, 3, 184, 1, 98, 172]
abbrev dktX4_best_4 : List UInt8 := dkwX4_best_4 ++ []
def dkwX4_best_3 : List UInt8 := [2, 167, 0, 34, 42, 180, 0, 148, 3, 46, 184, 2, 60, 167, 0, 22, 42, 180, 0, 148, 3, 46, 16, 50]
abbrev dktX4_best_3 : List UInt8 := dkwX4_best_3 ++ dktX4_best_4
def dkwX4_best_2 : List UInt8 := [180, 0, 145, 3, 46, 167, 0, 54, 29, 4, 160, 0, 30, 42, 180, 0, 148, 3, 46, 16, 50, 160, 0, 7]
abbrev dktX4_best_2 : List UInt8 := dkwX4_best_2 ++ dktX4_best_3
def dkwX4_best_1 : List UInt8 := [154, 0, 5, 2, 172, 42, 27, 28, 182, 2, 94, 154, 0, 6, 16, 254, 172, 29, 154, 0, 12, 42]
abbrev dktX4_best_1 : List UInt8 := dkwX4_best_1 ++ dktX4_best_2
def dkwX4_best_0 : List UInt8 := [42, 27, 182, 2, 51, 153, 0, 22, 28, 3, 16, 8, 184, 1, 238, 153, 0, 12, 29, 3, 5, 184, 1, 238]
abbrev dktX4_best_0 : List UInt8 := dkwX4_best_0 ++ dktX4_best_1
theorem dksX4_best_0 : cX4_best.data.toList.drop 0 = dktX4_best_0 := by decide +kernel
theorem dksX4_best_1 : cX4_best.data.toList.drop 24 = dktX4_best_1 := dk_seg dksX4_best_0 24 rfl rfl
theorem dksX4_best_2 : cX4_best.data.toList.drop 46 = dktX4_best_2 := dk_seg dksX4_best_1 22 rfl rfl
theorem dksX4_best_3 : cX4_best.data.toList.drop 70 = dktX4_best_3 := dk_seg dksX4_best_2 24 rfl rfl
theorem dksX4_best_4 : cX4_best.data.toList.drop 94 = dktX4_best_4 := dk_seg dksX4_best_3 24 rfl rfl
theorem dX4_best_0 : decode cX4_best 0 = .ok (.aload_n 0, 1) := dk_42 (dk_at dksX4_best_0 0 rfl rfl)
theorem dX4_best_1 : decode cX4_best 1 = .ok (.iload_n 1, 1) := dk_27 (dk_at dksX4_best_0 1 rfl rfl)
theorem dX4_best_2 : decode cX4_best 2 = .ok (.invokevirtual 563, 3) := dk_182 2 51 (dk_at dksX4_best_0 2 rfl rfl)
theorem dX4_best_5 : decode cX4_best 5 = .ok (.ifCond .eq 22, 3) := dk_153 0 22 (dk_at dksX4_best_0 5 rfl rfl)
theorem dX4_best_8 : decode cX4_best 8 = .ok (.iload_n 2, 1) := dk_28 (dk_at dksX4_best_0 8 rfl rfl)
theorem dX4_best_9 : decode cX4_best 9 = .ok (.iconst 0, 1) := dk_3 (dk_at dksX4_best_0 9 rfl rfl)
theorem dX4_best_10 : decode cX4_best 10 = .ok (.bipush 8, 2) := dk_16 8 (dk_at dksX4_best_0 10 rfl rfl)
theorem dX4_best_12 : decode cX4_best 12 = .ok (.invokestatic 494, 3) := dk_184 1 238 (dk_at dksX4_best_0 12 rfl rfl)
theorem dX4_best_15 : decode cX4_best 15 = .ok (.ifCond .eq 12, 3) := dk_153 0 12 (dk_at dksX4_best_0 15 rfl rfl)
theorem dX4_best_18 : decode cX4_best 18 = .ok (.iload_n 3, 1) := dk_29 (dk_at dksX4_best_0 18 rfl rfl)
theorem dX4_best_19 : decode cX4_best 19 = .ok (.iconst 0, 1) := dk_3 (dk_at dksX4_best_0 19 rfl rfl)
theorem dX4_best_20 : decode cX4_best 20 = .ok (.iconst 2, 1) := dk_5 (dk_at dksX4_best_0 20 rfl rfl)
theorem dX4_best_21 : decode cX4_best 21 = .ok (.invokestatic 494, 3) := dk_184 1 238 (dk_at dksX4_best_0 21 rfl rfl)
theorem dX4_best_24 : decode cX4_best 24 = .ok (.ifCond .ne 5, 3) := dk_154 0 5 (dk_at dksX4_best_1 0 rfl rfl)
theorem dX4_best_27 : decode cX4_best 27 = .ok (.iconst (-1), 1) := dk_2 (dk_at dksX4_best_1 3 rfl rfl)
theorem dX4_best_28 : decode cX4_best 28 = .ok (.ireturn, 1) := dk_172 (dk_at dksX4_best_1 4 rfl rfl)
theorem dX4_best_29 : decode cX4_best 29 = .ok (.aload_n 0, 1) := dk_42 (dk_at dksX4_best_1 5 rfl rfl)
theorem dX4_best_30 : decode cX4_best 30 = .ok (.iload_n 1, 1) := dk_27 (dk_at dksX4_best_1 6 rfl rfl)
theorem dX4_best_31 : decode cX4_best 31 = .ok (.iload_n 2, 1) := dk_28 (dk_at dksX4_best_1 7 rfl rfl)
theorem dX4_best_32 : decode cX4_best 32 = .ok (.invokevirtual 606, 3) := dk_182 2 94 (dk_at dksX4_best_1 8 rfl rfl)
theorem dX4_best_35 : decode cX4_best 35 = .ok (.ifCond .ne 6, 3) := dk_154 0 6 (dk_at dksX4_best_1 11 rfl rfl)
theorem dX4_best_38 : decode cX4_best 38 = .ok (.bipush (-2), 2) := dk_16 254 (dk_at dksX4_best_1 14 rfl rfl)
theorem dX4_best_40 : decode cX4_best 40 = .ok (.ireturn, 1) := dk_172 (dk_at dksX4_best_1 16 rfl rfl)
theorem dX4_best_41 : decode cX4_best 41 = .ok (.iload_n 3, 1) := dk_29 (dk_at dksX4_best_1 17 rfl rfl)
theorem dX4_best_42 : decode cX4_best 42 = .ok (.ifCond .ne 12, 3) := dk_154 0 12 (dk_at dksX4_best_1 18 rfl rfl)
theorem dX4_best_45 : decode cX4_best 45 = .ok (.aload_n 0, 1) := dk_42 (dk_at dksX4_best_1 21 rfl rfl)
theorem dX4_best_46 : decode cX4_best 46 = .ok (.getfield 145, 3) := dk_180 0 145 (dk_at dksX4_best_2 0 rfl rfl)
theorem dX4_best_49 : decode cX4_best 49 = .ok (.iconst 0, 1) := dk_3 (dk_at dksX4_best_2 3 rfl rfl)
theorem dX4_best_50 : decode cX4_best 50 = .ok (.iaload, 1) := dk_46 (dk_at dksX4_best_2 4 rfl rfl)
theorem dX4_best_51 : decode cX4_best 51 = .ok (.goto 54, 3) := dk_167 0 54 (dk_at dksX4_best_2 5 rfl rfl)
theorem dX4_best_54 : decode cX4_best 54 = .ok (.iload_n 3, 1) := dk_29 (dk_at dksX4_best_2 8 rfl rfl)
theorem dX4_best_55 : decode cX4_best 55 = .ok (.iconst 1, 1) := dk_4 (dk_at dksX4_best_2 9 rfl rfl)
theorem dX4_best_56 : decode cX4_best 56 = .ok (.if_icmp .ne 30, 3) := dk_160 0 30 (dk_at dksX4_best_2 10 rfl rfl)
theorem dX4_best_59 : decode cX4_best 59 = .ok (.aload_n 0, 1) := dk_42 (dk_at dksX4_best_2 13 rfl rfl)
theorem dX4_best_60 : decode cX4_best 60 = .ok (.getfield 148, 3) := dk_180 0 148 (dk_at dksX4_best_2 14 rfl rfl)
theorem dX4_best_63 : decode cX4_best 63 = .ok (.iconst 0, 1) := dk_3 (dk_at dksX4_best_2 17 rfl rfl)
theorem dX4_best_64 : decode cX4_best 64 = .ok (.iaload, 1) := dk_46 (dk_at dksX4_best_2 18 rfl rfl)
theorem dX4_best_65 : decode cX4_best 65 = .ok (.bipush 50, 2) := dk_16 50 (dk_at dksX4_best_2 19 rfl rfl)
theorem dX4_best_67 : decode cX4_best 67 = .ok (.if_icmp .ne 7, 3) := dk_160 0 7 (dk_at dksX4_best_2 21 rfl rfl)
theorem dX4_best_70 : decode cX4_best 70 = .ok (.iconst (-1), 1) := dk_2 (dk_at dksX4_best_3 0 rfl rfl)
theorem dX4_best_71 : decode cX4_best 71 = .ok (.goto 34, 3) := dk_167 0 34 (dk_at dksX4_best_3 1 rfl rfl)
theorem dX4_best_74 : decode cX4_best 74 = .ok (.aload_n 0, 1) := dk_42 (dk_at dksX4_best_3 4 rfl rfl)
theorem dX4_best_75 : decode cX4_best 75 = .ok (.getfield 148, 3) := dk_180 0 148 (dk_at dksX4_best_3 5 rfl rfl)
theorem dX4_best_78 : decode cX4_best 78 = .ok (.iconst 0, 1) := dk_3 (dk_at dksX4_best_3 8 rfl rfl)
theorem dX4_best_79 : decode cX4_best 79 = .ok (.iaload, 1) := dk_46 (dk_at dksX4_best_3 9 rfl rfl)
theorem dX4_best_80 : decode cX4_best 80 = .ok (.invokestatic 572, 3) := dk_184 2 60 (dk_at dksX4_best_3 10 rfl rfl)
theorem dX4_best_83 : decode cX4_best 83 = .ok (.goto 22, 3) := dk_167 0 22 (dk_at dksX4_best_3 13 rfl rfl)
theorem dX4_best_86 : decode cX4_best 86 = .ok (.aload_n 0, 1) := dk_42 (dk_at dksX4_best_3 16 rfl rfl)
theorem dX4_best_87 : decode cX4_best 87 = .ok (.getfield 148, 3) := dk_180 0 148 (dk_at dksX4_best_3 17 rfl rfl)
theorem dX4_best_90 : decode cX4_best 90 = .ok (.iconst 0, 1) := dk_3 (dk_at dksX4_best_3 20 rfl rfl)
theorem dX4_best_91 : decode cX4_best 91 = .ok (.iaload, 1) := dk_46 (dk_at dksX4_best_3 21 rfl rfl)
theorem dX4_best_92 : decode cX4_best 92 = .ok (.bipush 50, 2) := dk_16 50 (dk_at dksX4_best_3 22 rfl rfl)
theorem dX4_best_94 : decode cX4_best 94 = .ok (.if_icmp .ne 7, 3) := dk_160 0 7 (dk_at dksX4_best_4 0 rfl rfl)
theorem dX4_best_97 : decode cX4_best 97 = .ok (.iconst 1, 1) := dk_4 (dk_at dksX4_best_4 3 rfl rfl)
theorem dX4_best_98 : decode cX4_best 98 = .ok (.goto 4, 3) := dk_167 0 4 (dk_at dksX4_best_4 4 rfl rfl)
theorem dX4_best_101 : decode cX4_best 101 = .ok (.iconst 0, 1) := dk_3 (dk_at dksX4_best_4 7 rfl rfl)
theorem dX4_best_102 : decode cX4_best 102 = .ok (.invokestatic 354, 3) := dk_184 1 98 (dk_at dksX4_best_4 8 rfl rfl)
theorem dX4_best_105 : decode cX4_best 105 = .ok (.ireturn, 1) := dk_172 (dk_at dksX4_best_4 11 rfl rfl)
abbrev cX4_layBest : ByteArray := prog_23_method_98_code
def yX4_layBest : MethodName := ⟨RX4, "layBest", "(II)Z"⟩
def dkwX4_layBest_15 : List UInt8 := [17, 78, 32, 163, 0, 7, 4, 167, 0, 4, 3, 172]
abbrev dktX4_layBest_15 : List UInt8 := dkwX4_layBest_15 ++ []
def dkwX4_layBest_14 : List UInt8 := [108, 167, 0, 5, 21, 4, 182, 2, 91, 42, 180, 0, 139, 29, 3, 79, 167, 254, 187, 42, 180, 2, 78]
abbrev dktX4_layBest_14 : List UInt8 := dkwX4_layBest_14 ++ dktX4_layBest_15
def dkwX4_layBest_13 : List UInt8 := [21, 6, 19, 2, 90, 42, 180, 0, 142, 29, 46, 96, 104, 16, 100, 21, 6, 100, 21, 4, 104, 96, 16, 100]
abbrev dktX4_layBest_13 : List UInt8 := dkwX4_layBest_13 ++ dktX4_layBest_14
def dkwX4_layBest_12 : List UInt8 := [8, 112, 182, 2, 26, 167, 0, 4, 3, 54, 6, 42, 29, 42, 180, 0, 139, 29, 46, 5, 160, 0, 31]
abbrev dktX4_layBest_12 : List UInt8 := dkwX4_layBest_12 ++ dktX4_layBest_13
def dkwX4_layBest_11 : List UInt8 := [132, 3, 1, 167, 0, 84, 42, 180, 0, 139, 29, 46, 5, 160, 0, 19, 42, 27, 21, 5, 8, 108, 21, 5]
abbrev dktX4_layBest_11 : List UInt8 := dkwX4_layBest_11 ++ dktX4_layBest_12
def dkwX4_layBest_10 : List UInt8 := [182, 2, 29, 42, 29, 4, 96, 42, 180, 0, 133, 29, 46, 21, 5, 8, 112, 184, 2, 17, 100, 182, 2, 81]
abbrev dktX4_layBest_10 : List UInt8 := dkwX4_layBest_10 ++ dktX4_layBest_11
def dkwX4_layBest_9 : List UInt8 := [132, 3, 1, 167, 0, 131, 42, 180, 0, 139, 29, 4, 79, 42, 27, 21, 5, 8, 108, 21, 5, 8, 112]
abbrev dktX4_layBest_9 : List UInt8 := dkwX4_layBest_9 ++ dktX4_layBest_10
def dkwX4_layBest_8 : List UInt8 := [29, 6, 79, 42, 27, 182, 2, 45, 42, 29, 4, 96, 42, 180, 0, 133, 29, 46, 5, 100, 182, 2, 81]
abbrev dktX4_layBest_8 : List UInt8 := dkwX4_layBest_8 ++ dktX4_layBest_9
def dkwX4_layBest_7 : List UInt8 := [180, 0, 145, 29, 46, 54, 4, 132, 3, 255, 167, 0, 171, 21, 5, 16, 50, 160, 0, 36, 42, 180, 0, 139]
abbrev dktX4_layBest_7 : List UInt8 := dkwX4_layBest_7 ++ dktX4_layBest_8
def dkwX4_layBest_6 : List UInt8 := [132, 5, 1, 167, 255, 235, 42, 180, 0, 136, 29, 21, 5, 79, 21, 5, 16, 50, 164, 0, 17, 42]
abbrev dktX4_layBest_6 : List UInt8 := dkwX4_layBest_6 ++ dktX4_layBest_7
def dkwX4_layBest_5 : List UInt8 := [154, 0, 146, 132, 5, 1, 21, 5, 16, 50, 163, 0, 20, 42, 27, 29, 21, 5, 182, 2, 87, 154, 0, 9]
abbrev dktX4_layBest_5 : List UInt8 := dkwX4_layBest_5 ++ dktX4_layBest_6
def dkwX4_layBest_4 : List UInt8 := [21, 5, 8, 112, 184, 2, 17, 100, 182, 2, 81, 132, 3, 1, 167, 0, 236, 42, 180, 0, 139, 29, 46]
abbrev dktX4_layBest_4 : List UInt8 := dkwX4_layBest_4 ++ dktX4_layBest_5
def dkwX4_layBest_3 : List UInt8 := [42, 27, 21, 5, 8, 108, 21, 5, 8, 112, 182, 2, 33, 42, 29, 4, 96, 42, 180, 0, 133, 29, 46]
abbrev dktX4_layBest_3 : List UInt8 := dkwX4_layBest_3 ++ dktX4_layBest_4
def dkwX4_layBest_2 : List UInt8 := [180, 0, 139, 29, 46, 4, 160, 0, 58, 42, 180, 0, 142, 29, 21, 4, 79, 42, 180, 0, 139, 29, 5, 79]
abbrev dktX4_layBest_2 : List UInt8 := dkwX4_layBest_2 ++ dktX4_layBest_3
def dkwX4_layBest_1 : List UInt8 := [42, 180, 2, 78, 17, 78, 32, 163, 1, 61, 42, 29, 182, 2, 84, 42, 180, 0, 136, 29, 46, 54, 5, 42]
abbrev dktX4_layBest_1 : List UInt8 := dkwX4_layBest_1 ++ dktX4_layBest_2
def dkwX4_layBest_0 : List UInt8 := [42, 3, 181, 2, 78, 42, 182, 2, 54, 42, 3, 28, 182, 2, 81, 3, 62, 3, 54, 4, 29, 155, 1, 71]
abbrev dktX4_layBest_0 : List UInt8 := dkwX4_layBest_0 ++ dktX4_layBest_1
theorem dksX4_layBest_0 : cX4_layBest.data.toList.drop 0 = dktX4_layBest_0 := by decide +kernel
theorem dksX4_layBest_1 : cX4_layBest.data.toList.drop 24 = dktX4_layBest_1 := dk_seg dksX4_layBest_0 24 rfl rfl
theorem dksX4_layBest_2 : cX4_layBest.data.toList.drop 48 = dktX4_layBest_2 := dk_seg dksX4_layBest_1 24 rfl rfl
theorem dksX4_layBest_3 : cX4_layBest.data.toList.drop 72 = dktX4_layBest_3 := dk_seg dksX4_layBest_2 24 rfl rfl
theorem dksX4_layBest_4 : cX4_layBest.data.toList.drop 95 = dktX4_layBest_4 := dk_seg dksX4_layBest_3 23 rfl rfl
theorem dksX4_layBest_5 : cX4_layBest.data.toList.drop 118 = dktX4_layBest_5 := dk_seg dksX4_layBest_4 23 rfl rfl
theorem dksX4_layBest_6 : cX4_layBest.data.toList.drop 142 = dktX4_layBest_6 := dk_seg dksX4_layBest_5 24 rfl rfl
theorem dksX4_layBest_7 : cX4_layBest.data.toList.drop 164 = dktX4_layBest_7 := dk_seg dksX4_layBest_6 22 rfl rfl
theorem dksX4_layBest_8 : cX4_layBest.data.toList.drop 188 = dktX4_layBest_8 := dk_seg dksX4_layBest_7 24 rfl rfl
theorem dksX4_layBest_9 : cX4_layBest.data.toList.drop 211 = dktX4_layBest_9 := dk_seg dksX4_layBest_8 23 rfl rfl
theorem dksX4_layBest_10 : cX4_layBest.data.toList.drop 234 = dktX4_layBest_10 := dk_seg dksX4_layBest_9 23 rfl rfl
theorem dksX4_layBest_11 : cX4_layBest.data.toList.drop 258 = dktX4_layBest_11 := dk_seg dksX4_layBest_10 24 rfl rfl
theorem dksX4_layBest_12 : cX4_layBest.data.toList.drop 282 = dktX4_layBest_12 := dk_seg dksX4_layBest_11 24 rfl rfl
theorem dksX4_layBest_13 : cX4_layBest.data.toList.drop 305 = dktX4_layBest_13 := dk_seg dksX4_layBest_12 23 rfl rfl
theorem dksX4_layBest_14 : cX4_layBest.data.toList.drop 329 = dktX4_layBest_14 := dk_seg dksX4_layBest_13 24 rfl rfl
theorem dksX4_layBest_15 : cX4_layBest.data.toList.drop 352 = dktX4_layBest_15 := dk_seg dksX4_layBest_14 23 rfl rfl
theorem dX4_layBest_0 : decode cX4_layBest 0 = .ok (.aload_n 0, 1) := dk_42 (dk_at dksX4_layBest_0 0 rfl rfl)
theorem dX4_layBest_1 : decode cX4_layBest 1 = .ok (.iconst 0, 1) := dk_3 (dk_at dksX4_layBest_0 1 rfl rfl)
theorem dX4_layBest_2 : decode cX4_layBest 2 = .ok (.putfield 590, 3) := dk_181 2 78 (dk_at dksX4_layBest_0 2 rfl rfl)
theorem dX4_layBest_5 : decode cX4_layBest 5 = .ok (.aload_n 0, 1) := dk_42 (dk_at dksX4_layBest_0 5 rfl rfl)
theorem dX4_layBest_6 : decode cX4_layBest 6 = .ok (.invokevirtual 566, 3) := dk_182 2 54 (dk_at dksX4_layBest_0 6 rfl rfl)
theorem dX4_layBest_9 : decode cX4_layBest 9 = .ok (.aload_n 0, 1) := dk_42 (dk_at dksX4_layBest_0 9 rfl rfl)
theorem dX4_layBest_10 : decode cX4_layBest 10 = .ok (.iconst 0, 1) := dk_3 (dk_at dksX4_layBest_0 10 rfl rfl)
theorem dX4_layBest_11 : decode cX4_layBest 11 = .ok (.iload_n 2, 1) := dk_28 (dk_at dksX4_layBest_0 11 rfl rfl)
theorem dX4_layBest_12 : decode cX4_layBest 12 = .ok (.invokevirtual 593, 3) := dk_182 2 81 (dk_at dksX4_layBest_0 12 rfl rfl)
theorem dX4_layBest_15 : decode cX4_layBest 15 = .ok (.iconst 0, 1) := dk_3 (dk_at dksX4_layBest_0 15 rfl rfl)
theorem dX4_layBest_16 : decode cX4_layBest 16 = .ok (.istore_n 3, 1) := dk_62 (dk_at dksX4_layBest_0 16 rfl rfl)
theorem dX4_layBest_17 : decode cX4_layBest 17 = .ok (.iconst 0, 1) := dk_3 (dk_at dksX4_layBest_0 17 rfl rfl)
theorem dX4_layBest_18 : decode cX4_layBest 18 = .ok (.istore 4, 2) := dk_54 4 (dk_at dksX4_layBest_0 18 rfl rfl)
theorem dX4_layBest_20 : decode cX4_layBest 20 = .ok (.iload_n 3, 1) := dk_29 (dk_at dksX4_layBest_0 20 rfl rfl)
theorem dX4_layBest_21 : decode cX4_layBest 21 = .ok (.ifCond .lt 327, 3) := dk_155 1 71 (dk_at dksX4_layBest_0 21 rfl rfl)
theorem dX4_layBest_24 : decode cX4_layBest 24 = .ok (.aload_n 0, 1) := dk_42 (dk_at dksX4_layBest_1 0 rfl rfl)
theorem dX4_layBest_25 : decode cX4_layBest 25 = .ok (.getfield 590, 3) := dk_180 2 78 (dk_at dksX4_layBest_1 1 rfl rfl)
theorem dX4_layBest_28 : decode cX4_layBest 28 = .ok (.sipush 20000, 3) := dk_17 78 32 (dk_at dksX4_layBest_1 4 rfl rfl)
theorem dX4_layBest_31 : decode cX4_layBest 31 = .ok (.if_icmp .gt 317, 3) := dk_163 1 61 (dk_at dksX4_layBest_1 7 rfl rfl)
theorem dX4_layBest_34 : decode cX4_layBest 34 = .ok (.aload_n 0, 1) := dk_42 (dk_at dksX4_layBest_1 10 rfl rfl)
theorem dX4_layBest_35 : decode cX4_layBest 35 = .ok (.iload_n 3, 1) := dk_29 (dk_at dksX4_layBest_1 11 rfl rfl)
theorem dX4_layBest_36 : decode cX4_layBest 36 = .ok (.invokevirtual 596, 3) := dk_182 2 84 (dk_at dksX4_layBest_1 12 rfl rfl)
theorem dX4_layBest_39 : decode cX4_layBest 39 = .ok (.aload_n 0, 1) := dk_42 (dk_at dksX4_layBest_1 15 rfl rfl)
theorem dX4_layBest_40 : decode cX4_layBest 40 = .ok (.getfield 136, 3) := dk_180 0 136 (dk_at dksX4_layBest_1 16 rfl rfl)
theorem dX4_layBest_43 : decode cX4_layBest 43 = .ok (.iload_n 3, 1) := dk_29 (dk_at dksX4_layBest_1 19 rfl rfl)
theorem dX4_layBest_44 : decode cX4_layBest 44 = .ok (.iaload, 1) := dk_46 (dk_at dksX4_layBest_1 20 rfl rfl)
theorem dX4_layBest_45 : decode cX4_layBest 45 = .ok (.istore 5, 2) := dk_54 5 (dk_at dksX4_layBest_1 21 rfl rfl)
theorem dX4_layBest_47 : decode cX4_layBest 47 = .ok (.aload_n 0, 1) := dk_42 (dk_at dksX4_layBest_1 23 rfl rfl)
theorem dX4_layBest_48 : decode cX4_layBest 48 = .ok (.getfield 139, 3) := dk_180 0 139 (dk_at dksX4_layBest_2 0 rfl rfl)
theorem dX4_layBest_51 : decode cX4_layBest 51 = .ok (.iload_n 3, 1) := dk_29 (dk_at dksX4_layBest_2 3 rfl rfl)
theorem dX4_layBest_52 : decode cX4_layBest 52 = .ok (.iaload, 1) := dk_46 (dk_at dksX4_layBest_2 4 rfl rfl)
theorem dX4_layBest_53 : decode cX4_layBest 53 = .ok (.iconst 1, 1) := dk_4 (dk_at dksX4_layBest_2 5 rfl rfl)
theorem dX4_layBest_54 : decode cX4_layBest 54 = .ok (.if_icmp .ne 58, 3) := dk_160 0 58 (dk_at dksX4_layBest_2 6 rfl rfl)
theorem dX4_layBest_57 : decode cX4_layBest 57 = .ok (.aload_n 0, 1) := dk_42 (dk_at dksX4_layBest_2 9 rfl rfl)
theorem dX4_layBest_58 : decode cX4_layBest 58 = .ok (.getfield 142, 3) := dk_180 0 142 (dk_at dksX4_layBest_2 10 rfl rfl)
theorem dX4_layBest_61 : decode cX4_layBest 61 = .ok (.iload_n 3, 1) := dk_29 (dk_at dksX4_layBest_2 13 rfl rfl)
theorem dX4_layBest_62 : decode cX4_layBest 62 = .ok (.iload 4, 2) := dk_21 4 (dk_at dksX4_layBest_2 14 rfl rfl)
theorem dX4_layBest_64 : decode cX4_layBest 64 = .ok (.iastore, 1) := dk_79 (dk_at dksX4_layBest_2 16 rfl rfl)
theorem dX4_layBest_65 : decode cX4_layBest 65 = .ok (.aload_n 0, 1) := dk_42 (dk_at dksX4_layBest_2 17 rfl rfl)
theorem dX4_layBest_66 : decode cX4_layBest 66 = .ok (.getfield 139, 3) := dk_180 0 139 (dk_at dksX4_layBest_2 18 rfl rfl)
theorem dX4_layBest_69 : decode cX4_layBest 69 = .ok (.iload_n 3, 1) := dk_29 (dk_at dksX4_layBest_2 21 rfl rfl)
theorem dX4_layBest_70 : decode cX4_layBest 70 = .ok (.iconst 2, 1) := dk_5 (dk_at dksX4_layBest_2 22 rfl rfl)
theorem dX4_layBest_71 : decode cX4_layBest 71 = .ok (.iastore, 1) := dk_79 (dk_at dksX4_layBest_2 23 rfl rfl)
theorem dX4_layBest_72 : decode cX4_layBest 72 = .ok (.aload_n 0, 1) := dk_42 (dk_at dksX4_layBest_3 0 rfl rfl)
theorem dX4_layBest_73 : decode cX4_layBest 73 = .ok (.iload_n 1, 1) := dk_27 (dk_at dksX4_layBest_3 1 rfl rfl)
theorem dX4_layBest_74 : decode cX4_layBest 74 = .ok (.iload 5, 2) := dk_21 5 (dk_at dksX4_layBest_3 2 rfl rfl)
theorem dX4_layBest_76 : decode cX4_layBest 76 = .ok (.iconst 5, 1) := dk_8 (dk_at dksX4_layBest_3 4 rfl rfl)
theorem dX4_layBest_77 : decode cX4_layBest 77 = .ok (.idiv, 1) := dk_108 (dk_at dksX4_layBest_3 5 rfl rfl)
theorem dX4_layBest_78 : decode cX4_layBest 78 = .ok (.iload 5, 2) := dk_21 5 (dk_at dksX4_layBest_3 6 rfl rfl)
theorem dX4_layBest_80 : decode cX4_layBest 80 = .ok (.iconst 5, 1) := dk_8 (dk_at dksX4_layBest_3 8 rfl rfl)
theorem dX4_layBest_81 : decode cX4_layBest 81 = .ok (.irem, 1) := dk_112 (dk_at dksX4_layBest_3 9 rfl rfl)
theorem dX4_layBest_82 : decode cX4_layBest 82 = .ok (.invokevirtual 545, 3) := dk_182 2 33 (dk_at dksX4_layBest_3 10 rfl rfl)
theorem dX4_layBest_85 : decode cX4_layBest 85 = .ok (.aload_n 0, 1) := dk_42 (dk_at dksX4_layBest_3 13 rfl rfl)
theorem dX4_layBest_86 : decode cX4_layBest 86 = .ok (.iload_n 3, 1) := dk_29 (dk_at dksX4_layBest_3 14 rfl rfl)
theorem dX4_layBest_87 : decode cX4_layBest 87 = .ok (.iconst 1, 1) := dk_4 (dk_at dksX4_layBest_3 15 rfl rfl)
theorem dX4_layBest_88 : decode cX4_layBest 88 = .ok (.iadd, 1) := dk_96 (dk_at dksX4_layBest_3 16 rfl rfl)
theorem dX4_layBest_89 : decode cX4_layBest 89 = .ok (.aload_n 0, 1) := dk_42 (dk_at dksX4_layBest_3 17 rfl rfl)
theorem dX4_layBest_90 : decode cX4_layBest 90 = .ok (.getfield 133, 3) := dk_180 0 133 (dk_at dksX4_layBest_3 18 rfl rfl)
theorem dX4_layBest_93 : decode cX4_layBest 93 = .ok (.iload_n 3, 1) := dk_29 (dk_at dksX4_layBest_3 21 rfl rfl)
theorem dX4_layBest_94 : decode cX4_layBest 94 = .ok (.iaload, 1) := dk_46 (dk_at dksX4_layBest_3 22 rfl rfl)
theorem dX4_layBest_95 : decode cX4_layBest 95 = .ok (.iload 5, 2) := dk_21 5 (dk_at dksX4_layBest_4 0 rfl rfl)
theorem dX4_layBest_97 : decode cX4_layBest 97 = .ok (.iconst 5, 1) := dk_8 (dk_at dksX4_layBest_4 2 rfl rfl)
theorem dX4_layBest_98 : decode cX4_layBest 98 = .ok (.irem, 1) := dk_112 (dk_at dksX4_layBest_4 3 rfl rfl)
theorem dX4_layBest_99 : decode cX4_layBest 99 = .ok (.invokestatic 529, 3) := dk_184 2 17 (dk_at dksX4_layBest_4 4 rfl rfl)
theorem dX4_layBest_102 : decode cX4_layBest 102 = .ok (.isub, 1) := dk_100 (dk_at dksX4_layBest_4 7 rfl rfl)
theorem dX4_layBest_103 : decode cX4_layBest 103 = .ok (.invokevirtual 593, 3) := dk_182 2 81 (dk_at dksX4_layBest_4 8 rfl rfl)
theorem dX4_layBest_106 : decode cX4_layBest 106 = .ok (.iinc 3 1, 3) := dk_132 3 1 (dk_at dksX4_layBest_4 11 rfl rfl)
theorem dX4_layBest_109 : decode cX4_layBest 109 = .ok (.goto 236, 3) := dk_167 0 236 (dk_at dksX4_layBest_4 14 rfl rfl)
theorem dX4_layBest_112 : decode cX4_layBest 112 = .ok (.aload_n 0, 1) := dk_42 (dk_at dksX4_layBest_4 17 rfl rfl)
theorem dX4_layBest_113 : decode cX4_layBest 113 = .ok (.getfield 139, 3) := dk_180 0 139 (dk_at dksX4_layBest_4 18 rfl rfl)
theorem dX4_layBest_116 : decode cX4_layBest 116 = .ok (.iload_n 3, 1) := dk_29 (dk_at dksX4_layBest_4 21 rfl rfl)
theorem dX4_layBest_117 : decode cX4_layBest 117 = .ok (.iaload, 1) := dk_46 (dk_at dksX4_layBest_4 22 rfl rfl)
theorem dX4_layBest_118 : decode cX4_layBest 118 = .ok (.ifCond .ne 146, 3) := dk_154 0 146 (dk_at dksX4_layBest_5 0 rfl rfl)
theorem dX4_layBest_121 : decode cX4_layBest 121 = .ok (.iinc 5 1, 3) := dk_132 5 1 (dk_at dksX4_layBest_5 3 rfl rfl)
theorem dX4_layBest_124 : decode cX4_layBest 124 = .ok (.iload 5, 2) := dk_21 5 (dk_at dksX4_layBest_5 6 rfl rfl)
theorem dX4_layBest_126 : decode cX4_layBest 126 = .ok (.bipush 50, 2) := dk_16 50 (dk_at dksX4_layBest_5 8 rfl rfl)
theorem dX4_layBest_128 : decode cX4_layBest 128 = .ok (.if_icmp .gt 20, 3) := dk_163 0 20 (dk_at dksX4_layBest_5 10 rfl rfl)
theorem dX4_layBest_131 : decode cX4_layBest 131 = .ok (.aload_n 0, 1) := dk_42 (dk_at dksX4_layBest_5 13 rfl rfl)
theorem dX4_layBest_132 : decode cX4_layBest 132 = .ok (.iload_n 1, 1) := dk_27 (dk_at dksX4_layBest_5 14 rfl rfl)
theorem dX4_layBest_133 : decode cX4_layBest 133 = .ok (.iload_n 3, 1) := dk_29 (dk_at dksX4_layBest_5 15 rfl rfl)
theorem dX4_layBest_134 : decode cX4_layBest 134 = .ok (.iload 5, 2) := dk_21 5 (dk_at dksX4_layBest_5 16 rfl rfl)
theorem dX4_layBest_136 : decode cX4_layBest 136 = .ok (.invokevirtual 599, 3) := dk_182 2 87 (dk_at dksX4_layBest_5 18 rfl rfl)
theorem dX4_layBest_139 : decode cX4_layBest 139 = .ok (.ifCond .ne 9, 3) := dk_154 0 9 (dk_at dksX4_layBest_5 21 rfl rfl)
theorem dX4_layBest_142 : decode cX4_layBest 142 = .ok (.iinc 5 1, 3) := dk_132 5 1 (dk_at dksX4_layBest_6 0 rfl rfl)
theorem dX4_layBest_145 : decode cX4_layBest 145 = .ok (.goto (-21), 3) := dk_167 255 235 (dk_at dksX4_layBest_6 3 rfl rfl)
theorem dX4_layBest_148 : decode cX4_layBest 148 = .ok (.aload_n 0, 1) := dk_42 (dk_at dksX4_layBest_6 6 rfl rfl)
theorem dX4_layBest_149 : decode cX4_layBest 149 = .ok (.getfield 136, 3) := dk_180 0 136 (dk_at dksX4_layBest_6 7 rfl rfl)
theorem dX4_layBest_152 : decode cX4_layBest 152 = .ok (.iload_n 3, 1) := dk_29 (dk_at dksX4_layBest_6 10 rfl rfl)
theorem dX4_layBest_153 : decode cX4_layBest 153 = .ok (.iload 5, 2) := dk_21 5 (dk_at dksX4_layBest_6 11 rfl rfl)
theorem dX4_layBest_155 : decode cX4_layBest 155 = .ok (.iastore, 1) := dk_79 (dk_at dksX4_layBest_6 13 rfl rfl)
theorem dX4_layBest_156 : decode cX4_layBest 156 = .ok (.iload 5, 2) := dk_21 5 (dk_at dksX4_layBest_6 14 rfl rfl)
theorem dX4_layBest_158 : decode cX4_layBest 158 = .ok (.bipush 50, 2) := dk_16 50 (dk_at dksX4_layBest_6 16 rfl rfl)
theorem dX4_layBest_160 : decode cX4_layBest 160 = .ok (.if_icmp .le 17, 3) := dk_164 0 17 (dk_at dksX4_layBest_6 18 rfl rfl)
theorem dX4_layBest_163 : decode cX4_layBest 163 = .ok (.aload_n 0, 1) := dk_42 (dk_at dksX4_layBest_6 21 rfl rfl)
theorem dX4_layBest_164 : decode cX4_layBest 164 = .ok (.getfield 145, 3) := dk_180 0 145 (dk_at dksX4_layBest_7 0 rfl rfl)
theorem dX4_layBest_167 : decode cX4_layBest 167 = .ok (.iload_n 3, 1) := dk_29 (dk_at dksX4_layBest_7 3 rfl rfl)
theorem dX4_layBest_168 : decode cX4_layBest 168 = .ok (.iaload, 1) := dk_46 (dk_at dksX4_layBest_7 4 rfl rfl)
theorem dX4_layBest_169 : decode cX4_layBest 169 = .ok (.istore 4, 2) := dk_54 4 (dk_at dksX4_layBest_7 5 rfl rfl)
theorem dX4_layBest_171 : decode cX4_layBest 171 = .ok (.iinc 3 (-1), 3) := dk_132 3 255 (dk_at dksX4_layBest_7 7 rfl rfl)
theorem dX4_layBest_174 : decode cX4_layBest 174 = .ok (.goto 171, 3) := dk_167 0 171 (dk_at dksX4_layBest_7 10 rfl rfl)
theorem dX4_layBest_177 : decode cX4_layBest 177 = .ok (.iload 5, 2) := dk_21 5 (dk_at dksX4_layBest_7 13 rfl rfl)
theorem dX4_layBest_179 : decode cX4_layBest 179 = .ok (.bipush 50, 2) := dk_16 50 (dk_at dksX4_layBest_7 15 rfl rfl)
theorem dX4_layBest_181 : decode cX4_layBest 181 = .ok (.if_icmp .ne 36, 3) := dk_160 0 36 (dk_at dksX4_layBest_7 17 rfl rfl)
theorem dX4_layBest_184 : decode cX4_layBest 184 = .ok (.aload_n 0, 1) := dk_42 (dk_at dksX4_layBest_7 20 rfl rfl)
theorem dX4_layBest_185 : decode cX4_layBest 185 = .ok (.getfield 139, 3) := dk_180 0 139 (dk_at dksX4_layBest_7 21 rfl rfl)
theorem dX4_layBest_188 : decode cX4_layBest 188 = .ok (.iload_n 3, 1) := dk_29 (dk_at dksX4_layBest_8 0 rfl rfl)
theorem dX4_layBest_189 : decode cX4_layBest 189 = .ok (.iconst 3, 1) := dk_6 (dk_at dksX4_layBest_8 1 rfl rfl)
theorem dX4_layBest_190 : decode cX4_layBest 190 = .ok (.iastore, 1) := dk_79 (dk_at dksX4_layBest_8 2 rfl rfl)
theorem dX4_layBest_191 : decode cX4_layBest 191 = .ok (.aload_n 0, 1) := dk_42 (dk_at dksX4_layBest_8 3 rfl rfl)
theorem dX4_layBest_192 : decode cX4_layBest 192 = .ok (.iload_n 1, 1) := dk_27 (dk_at dksX4_layBest_8 4 rfl rfl)
theorem dX4_layBest_193 : decode cX4_layBest 193 = .ok (.invokevirtual 557, 3) := dk_182 2 45 (dk_at dksX4_layBest_8 5 rfl rfl)
theorem dX4_layBest_196 : decode cX4_layBest 196 = .ok (.aload_n 0, 1) := dk_42 (dk_at dksX4_layBest_8 8 rfl rfl)
theorem dX4_layBest_197 : decode cX4_layBest 197 = .ok (.iload_n 3, 1) := dk_29 (dk_at dksX4_layBest_8 9 rfl rfl)
theorem dX4_layBest_198 : decode cX4_layBest 198 = .ok (.iconst 1, 1) := dk_4 (dk_at dksX4_layBest_8 10 rfl rfl)
theorem dX4_layBest_199 : decode cX4_layBest 199 = .ok (.iadd, 1) := dk_96 (dk_at dksX4_layBest_8 11 rfl rfl)
theorem dX4_layBest_200 : decode cX4_layBest 200 = .ok (.aload_n 0, 1) := dk_42 (dk_at dksX4_layBest_8 12 rfl rfl)
theorem dX4_layBest_201 : decode cX4_layBest 201 = .ok (.getfield 133, 3) := dk_180 0 133 (dk_at dksX4_layBest_8 13 rfl rfl)
theorem dX4_layBest_204 : decode cX4_layBest 204 = .ok (.iload_n 3, 1) := dk_29 (dk_at dksX4_layBest_8 16 rfl rfl)
theorem dX4_layBest_205 : decode cX4_layBest 205 = .ok (.iaload, 1) := dk_46 (dk_at dksX4_layBest_8 17 rfl rfl)
theorem dX4_layBest_206 : decode cX4_layBest 206 = .ok (.iconst 2, 1) := dk_5 (dk_at dksX4_layBest_8 18 rfl rfl)
theorem dX4_layBest_207 : decode cX4_layBest 207 = .ok (.isub, 1) := dk_100 (dk_at dksX4_layBest_8 19 rfl rfl)
theorem dX4_layBest_208 : decode cX4_layBest 208 = .ok (.invokevirtual 593, 3) := dk_182 2 81 (dk_at dksX4_layBest_8 20 rfl rfl)
theorem dX4_layBest_211 : decode cX4_layBest 211 = .ok (.iinc 3 1, 3) := dk_132 3 1 (dk_at dksX4_layBest_9 0 rfl rfl)
theorem dX4_layBest_214 : decode cX4_layBest 214 = .ok (.goto 131, 3) := dk_167 0 131 (dk_at dksX4_layBest_9 3 rfl rfl)
theorem dX4_layBest_217 : decode cX4_layBest 217 = .ok (.aload_n 0, 1) := dk_42 (dk_at dksX4_layBest_9 6 rfl rfl)
theorem dX4_layBest_218 : decode cX4_layBest 218 = .ok (.getfield 139, 3) := dk_180 0 139 (dk_at dksX4_layBest_9 7 rfl rfl)
theorem dX4_layBest_221 : decode cX4_layBest 221 = .ok (.iload_n 3, 1) := dk_29 (dk_at dksX4_layBest_9 10 rfl rfl)
theorem dX4_layBest_222 : decode cX4_layBest 222 = .ok (.iconst 1, 1) := dk_4 (dk_at dksX4_layBest_9 11 rfl rfl)
theorem dX4_layBest_223 : decode cX4_layBest 223 = .ok (.iastore, 1) := dk_79 (dk_at dksX4_layBest_9 12 rfl rfl)
theorem dX4_layBest_224 : decode cX4_layBest 224 = .ok (.aload_n 0, 1) := dk_42 (dk_at dksX4_layBest_9 13 rfl rfl)
theorem dX4_layBest_225 : decode cX4_layBest 225 = .ok (.iload_n 1, 1) := dk_27 (dk_at dksX4_layBest_9 14 rfl rfl)
theorem dX4_layBest_226 : decode cX4_layBest 226 = .ok (.iload 5, 2) := dk_21 5 (dk_at dksX4_layBest_9 15 rfl rfl)
theorem dX4_layBest_228 : decode cX4_layBest 228 = .ok (.iconst 5, 1) := dk_8 (dk_at dksX4_layBest_9 17 rfl rfl)
theorem dX4_layBest_229 : decode cX4_layBest 229 = .ok (.idiv, 1) := dk_108 (dk_at dksX4_layBest_9 18 rfl rfl)
theorem dX4_layBest_230 : decode cX4_layBest 230 = .ok (.iload 5, 2) := dk_21 5 (dk_at dksX4_layBest_9 19 rfl rfl)
theorem dX4_layBest_232 : decode cX4_layBest 232 = .ok (.iconst 5, 1) := dk_8 (dk_at dksX4_layBest_9 21 rfl rfl)
theorem dX4_layBest_233 : decode cX4_layBest 233 = .ok (.irem, 1) := dk_112 (dk_at dksX4_layBest_9 22 rfl rfl)
theorem dX4_layBest_234 : decode cX4_layBest 234 = .ok (.invokevirtual 541, 3) := dk_182 2 29 (dk_at dksX4_layBest_10 0 rfl rfl)
theorem dX4_layBest_237 : decode cX4_layBest 237 = .ok (.aload_n 0, 1) := dk_42 (dk_at dksX4_layBest_10 3 rfl rfl)
theorem dX4_layBest_238 : decode cX4_layBest 238 = .ok (.iload_n 3, 1) := dk_29 (dk_at dksX4_layBest_10 4 rfl rfl)
theorem dX4_layBest_239 : decode cX4_layBest 239 = .ok (.iconst 1, 1) := dk_4 (dk_at dksX4_layBest_10 5 rfl rfl)
theorem dX4_layBest_240 : decode cX4_layBest 240 = .ok (.iadd, 1) := dk_96 (dk_at dksX4_layBest_10 6 rfl rfl)
theorem dX4_layBest_241 : decode cX4_layBest 241 = .ok (.aload_n 0, 1) := dk_42 (dk_at dksX4_layBest_10 7 rfl rfl)
theorem dX4_layBest_242 : decode cX4_layBest 242 = .ok (.getfield 133, 3) := dk_180 0 133 (dk_at dksX4_layBest_10 8 rfl rfl)
theorem dX4_layBest_245 : decode cX4_layBest 245 = .ok (.iload_n 3, 1) := dk_29 (dk_at dksX4_layBest_10 11 rfl rfl)
theorem dX4_layBest_246 : decode cX4_layBest 246 = .ok (.iaload, 1) := dk_46 (dk_at dksX4_layBest_10 12 rfl rfl)
theorem dX4_layBest_247 : decode cX4_layBest 247 = .ok (.iload 5, 2) := dk_21 5 (dk_at dksX4_layBest_10 13 rfl rfl)
theorem dX4_layBest_249 : decode cX4_layBest 249 = .ok (.iconst 5, 1) := dk_8 (dk_at dksX4_layBest_10 15 rfl rfl)
theorem dX4_layBest_250 : decode cX4_layBest 250 = .ok (.irem, 1) := dk_112 (dk_at dksX4_layBest_10 16 rfl rfl)
theorem dX4_layBest_251 : decode cX4_layBest 251 = .ok (.invokestatic 529, 3) := dk_184 2 17 (dk_at dksX4_layBest_10 17 rfl rfl)
theorem dX4_layBest_254 : decode cX4_layBest 254 = .ok (.isub, 1) := dk_100 (dk_at dksX4_layBest_10 20 rfl rfl)
theorem dX4_layBest_255 : decode cX4_layBest 255 = .ok (.invokevirtual 593, 3) := dk_182 2 81 (dk_at dksX4_layBest_10 21 rfl rfl)
theorem dX4_layBest_258 : decode cX4_layBest 258 = .ok (.iinc 3 1, 3) := dk_132 3 1 (dk_at dksX4_layBest_11 0 rfl rfl)
theorem dX4_layBest_261 : decode cX4_layBest 261 = .ok (.goto 84, 3) := dk_167 0 84 (dk_at dksX4_layBest_11 3 rfl rfl)
theorem dX4_layBest_264 : decode cX4_layBest 264 = .ok (.aload_n 0, 1) := dk_42 (dk_at dksX4_layBest_11 6 rfl rfl)
theorem dX4_layBest_265 : decode cX4_layBest 265 = .ok (.getfield 139, 3) := dk_180 0 139 (dk_at dksX4_layBest_11 7 rfl rfl)
theorem dX4_layBest_268 : decode cX4_layBest 268 = .ok (.iload_n 3, 1) := dk_29 (dk_at dksX4_layBest_11 10 rfl rfl)
theorem dX4_layBest_269 : decode cX4_layBest 269 = .ok (.iaload, 1) := dk_46 (dk_at dksX4_layBest_11 11 rfl rfl)
theorem dX4_layBest_270 : decode cX4_layBest 270 = .ok (.iconst 2, 1) := dk_5 (dk_at dksX4_layBest_11 12 rfl rfl)
theorem dX4_layBest_271 : decode cX4_layBest 271 = .ok (.if_icmp .ne 19, 3) := dk_160 0 19 (dk_at dksX4_layBest_11 13 rfl rfl)
theorem dX4_layBest_274 : decode cX4_layBest 274 = .ok (.aload_n 0, 1) := dk_42 (dk_at dksX4_layBest_11 16 rfl rfl)
theorem dX4_layBest_275 : decode cX4_layBest 275 = .ok (.iload_n 1, 1) := dk_27 (dk_at dksX4_layBest_11 17 rfl rfl)
theorem dX4_layBest_276 : decode cX4_layBest 276 = .ok (.iload 5, 2) := dk_21 5 (dk_at dksX4_layBest_11 18 rfl rfl)
theorem dX4_layBest_278 : decode cX4_layBest 278 = .ok (.iconst 5, 1) := dk_8 (dk_at dksX4_layBest_11 20 rfl rfl)
theorem dX4_layBest_279 : decode cX4_layBest 279 = .ok (.idiv, 1) := dk_108 (dk_at dksX4_layBest_11 21 rfl rfl)
theorem dX4_layBest_280 : decode cX4_layBest 280 = .ok (.iload 5, 2) := dk_21 5 (dk_at dksX4_layBest_11 22 rfl rfl)
theorem dX4_layBest_282 : decode cX4_layBest 282 = .ok (.iconst 5, 1) := dk_8 (dk_at dksX4_layBest_12 0 rfl rfl)
theorem dX4_layBest_283 : decode cX4_layBest 283 = .ok (.irem, 1) := dk_112 (dk_at dksX4_layBest_12 1 rfl rfl)
theorem dX4_layBest_284 : decode cX4_layBest 284 = .ok (.invokevirtual 538, 3) := dk_182 2 26 (dk_at dksX4_layBest_12 2 rfl rfl)
theorem dX4_layBest_287 : decode cX4_layBest 287 = .ok (.goto 4, 3) := dk_167 0 4 (dk_at dksX4_layBest_12 5 rfl rfl)
theorem dX4_layBest_290 : decode cX4_layBest 290 = .ok (.iconst 0, 1) := dk_3 (dk_at dksX4_layBest_12 8 rfl rfl)
theorem dX4_layBest_291 : decode cX4_layBest 291 = .ok (.istore 6, 2) := dk_54 6 (dk_at dksX4_layBest_12 9 rfl rfl)
theorem dX4_layBest_293 : decode cX4_layBest 293 = .ok (.aload_n 0, 1) := dk_42 (dk_at dksX4_layBest_12 11 rfl rfl)
theorem dX4_layBest_294 : decode cX4_layBest 294 = .ok (.iload_n 3, 1) := dk_29 (dk_at dksX4_layBest_12 12 rfl rfl)
theorem dX4_layBest_295 : decode cX4_layBest 295 = .ok (.aload_n 0, 1) := dk_42 (dk_at dksX4_layBest_12 13 rfl rfl)
theorem dX4_layBest_296 : decode cX4_layBest 296 = .ok (.getfield 139, 3) := dk_180 0 139 (dk_at dksX4_layBest_12 14 rfl rfl)
theorem dX4_layBest_299 : decode cX4_layBest 299 = .ok (.iload_n 3, 1) := dk_29 (dk_at dksX4_layBest_12 17 rfl rfl)
theorem dX4_layBest_300 : decode cX4_layBest 300 = .ok (.iaload, 1) := dk_46 (dk_at dksX4_layBest_12 18 rfl rfl)
theorem dX4_layBest_301 : decode cX4_layBest 301 = .ok (.iconst 2, 1) := dk_5 (dk_at dksX4_layBest_12 19 rfl rfl)
theorem dX4_layBest_302 : decode cX4_layBest 302 = .ok (.if_icmp .ne 31, 3) := dk_160 0 31 (dk_at dksX4_layBest_12 20 rfl rfl)
theorem dX4_layBest_305 : decode cX4_layBest 305 = .ok (.iload 6, 2) := dk_21 6 (dk_at dksX4_layBest_13 0 rfl rfl)
theorem dX4_layBest_307 : decode cX4_layBest 307 = .ok (.ldc_w 602, 3) := dk_19 2 90 (dk_at dksX4_layBest_13 2 rfl rfl)
theorem dX4_layBest_310 : decode cX4_layBest 310 = .ok (.aload_n 0, 1) := dk_42 (dk_at dksX4_layBest_13 5 rfl rfl)
theorem dX4_layBest_311 : decode cX4_layBest 311 = .ok (.getfield 142, 3) := dk_180 0 142 (dk_at dksX4_layBest_13 6 rfl rfl)
theorem dX4_layBest_314 : decode cX4_layBest 314 = .ok (.iload_n 3, 1) := dk_29 (dk_at dksX4_layBest_13 9 rfl rfl)
theorem dX4_layBest_315 : decode cX4_layBest 315 = .ok (.iaload, 1) := dk_46 (dk_at dksX4_layBest_13 10 rfl rfl)
theorem dX4_layBest_316 : decode cX4_layBest 316 = .ok (.iadd, 1) := dk_96 (dk_at dksX4_layBest_13 11 rfl rfl)
theorem dX4_layBest_317 : decode cX4_layBest 317 = .ok (.imul, 1) := dk_104 (dk_at dksX4_layBest_13 12 rfl rfl)
theorem dX4_layBest_318 : decode cX4_layBest 318 = .ok (.bipush 100, 2) := dk_16 100 (dk_at dksX4_layBest_13 13 rfl rfl)
theorem dX4_layBest_320 : decode cX4_layBest 320 = .ok (.iload 6, 2) := dk_21 6 (dk_at dksX4_layBest_13 15 rfl rfl)
theorem dX4_layBest_322 : decode cX4_layBest 322 = .ok (.isub, 1) := dk_100 (dk_at dksX4_layBest_13 17 rfl rfl)
theorem dX4_layBest_323 : decode cX4_layBest 323 = .ok (.iload 4, 2) := dk_21 4 (dk_at dksX4_layBest_13 18 rfl rfl)
theorem dX4_layBest_325 : decode cX4_layBest 325 = .ok (.imul, 1) := dk_104 (dk_at dksX4_layBest_13 20 rfl rfl)
theorem dX4_layBest_326 : decode cX4_layBest 326 = .ok (.iadd, 1) := dk_96 (dk_at dksX4_layBest_13 21 rfl rfl)
theorem dX4_layBest_327 : decode cX4_layBest 327 = .ok (.bipush 100, 2) := dk_16 100 (dk_at dksX4_layBest_13 22 rfl rfl)
theorem dX4_layBest_329 : decode cX4_layBest 329 = .ok (.idiv, 1) := dk_108 (dk_at dksX4_layBest_14 0 rfl rfl)
theorem dX4_layBest_330 : decode cX4_layBest 330 = .ok (.goto 5, 3) := dk_167 0 5 (dk_at dksX4_layBest_14 1 rfl rfl)
theorem dX4_layBest_333 : decode cX4_layBest 333 = .ok (.iload 4, 2) := dk_21 4 (dk_at dksX4_layBest_14 4 rfl rfl)
theorem dX4_layBest_335 : decode cX4_layBest 335 = .ok (.invokevirtual 603, 3) := dk_182 2 91 (dk_at dksX4_layBest_14 6 rfl rfl)
theorem dX4_layBest_338 : decode cX4_layBest 338 = .ok (.aload_n 0, 1) := dk_42 (dk_at dksX4_layBest_14 9 rfl rfl)
theorem dX4_layBest_339 : decode cX4_layBest 339 = .ok (.getfield 139, 3) := dk_180 0 139 (dk_at dksX4_layBest_14 10 rfl rfl)
theorem dX4_layBest_342 : decode cX4_layBest 342 = .ok (.iload_n 3, 1) := dk_29 (dk_at dksX4_layBest_14 13 rfl rfl)
theorem dX4_layBest_343 : decode cX4_layBest 343 = .ok (.iconst 0, 1) := dk_3 (dk_at dksX4_layBest_14 14 rfl rfl)
theorem dX4_layBest_344 : decode cX4_layBest 344 = .ok (.iastore, 1) := dk_79 (dk_at dksX4_layBest_14 15 rfl rfl)
theorem dX4_layBest_345 : decode cX4_layBest 345 = .ok (.goto (-325), 3) := dk_167 254 187 (dk_at dksX4_layBest_14 16 rfl rfl)
theorem dX4_layBest_348 : decode cX4_layBest 348 = .ok (.aload_n 0, 1) := dk_42 (dk_at dksX4_layBest_14 19 rfl rfl)
theorem dX4_layBest_349 : decode cX4_layBest 349 = .ok (.getfield 590, 3) := dk_180 2 78 (dk_at dksX4_layBest_14 20 rfl rfl)
theorem dX4_layBest_352 : decode cX4_layBest 352 = .ok (.sipush 20000, 3) := dk_17 78 32 (dk_at dksX4_layBest_15 0 rfl rfl)
theorem dX4_layBest_355 : decode cX4_layBest 355 = .ok (.if_icmp .gt 7, 3) := dk_163 0 7 (dk_at dksX4_layBest_15 3 rfl rfl)
theorem dX4_layBest_358 : decode cX4_layBest 358 = .ok (.iconst 1, 1) := dk_4 (dk_at dksX4_layBest_15 6 rfl rfl)
theorem dX4_layBest_359 : decode cX4_layBest 359 = .ok (.goto 4, 3) := dk_167 0 4 (dk_at dksX4_layBest_15 7 rfl rfl)
theorem dX4_layBest_362 : decode cX4_layBest 362 = .ok (.iconst 0, 1) := dk_3 (dk_at dksX4_layBest_15 10 rfl rfl)
theorem dX4_layBest_363 : decode cX4_layBest 363 = .ok (.ireturn, 1) := dk_172 (dk_at dksX4_layBest_15 11 rfl rfl)
abbrev cX4_goDeeper : ByteArray := prog_23_method_95_code
def yX4_goDeeper : MethodName := ⟨RX4, "goDeeper", "(II)V"⟩
def dkwX4_goDeeper_3 : List UInt8 := [180, 2, 78, 4, 96, 181, 2, 78, 177]
abbrev dktX4_goDeeper_3 : List UInt8 := dkwX4_goDeeper_3 ++ []
def dkwX4_goDeeper_2 : List UInt8 := [180, 0, 139, 27, 3, 79, 42, 180, 0, 145, 27, 3, 79, 42, 180, 0, 148, 27, 2, 79, 42, 89]
abbrev dktX4_goDeeper_2 : List UInt8 := dkwX4_goDeeper_2 ++ dktX4_goDeeper_3
def dkwX4_goDeeper_1 : List UInt8 := [46, 79, 132, 3, 1, 167, 255, 229, 42, 180, 0, 133, 27, 28, 79, 42, 180, 0, 136, 27, 2, 79, 42]
abbrev dktX4_goDeeper_1 : List UInt8 := dkwX4_goDeeper_1 ++ dktX4_goDeeper_2
def dkwX4_goDeeper_0 : List UInt8 := [3, 62, 29, 16, 123, 162, 0, 27, 42, 180, 0, 130, 17, 0, 128, 27, 104, 29, 96, 42, 180, 0, 121, 29]
abbrev dktX4_goDeeper_0 : List UInt8 := dkwX4_goDeeper_0 ++ dktX4_goDeeper_1
theorem dksX4_goDeeper_0 : cX4_goDeeper.data.toList.drop 0 = dktX4_goDeeper_0 := by decide +kernel
theorem dksX4_goDeeper_1 : cX4_goDeeper.data.toList.drop 24 = dktX4_goDeeper_1 := dk_seg dksX4_goDeeper_0 24 rfl rfl
theorem dksX4_goDeeper_2 : cX4_goDeeper.data.toList.drop 47 = dktX4_goDeeper_2 := dk_seg dksX4_goDeeper_1 23 rfl rfl
theorem dksX4_goDeeper_3 : cX4_goDeeper.data.toList.drop 69 = dktX4_goDeeper_3 := dk_seg dksX4_goDeeper_2 22 rfl rfl
theorem dX4_goDeeper_0 : decode cX4_goDeeper 0 = .ok (.iconst 0, 1) := dk_3 (dk_at dksX4_goDeeper_0 0 rfl rfl)
theorem dX4_goDeeper_1 : decode cX4_goDeeper 1 = .ok (.istore_n 3, 1) := dk_62 (dk_at dksX4_goDeeper_0 1 rfl rfl)
theorem dX4_goDeeper_2 : decode cX4_goDeeper 2 = .ok (.iload_n 3, 1) := dk_29 (dk_at dksX4_goDeeper_0 2 rfl rfl)
theorem dX4_goDeeper_3 : decode cX4_goDeeper 3 = .ok (.bipush 123, 2) := dk_16 123 (dk_at dksX4_goDeeper_0 3 rfl rfl)
theorem dX4_goDeeper_5 : decode cX4_goDeeper 5 = .ok (.if_icmp .ge 27, 3) := dk_162 0 27 (dk_at dksX4_goDeeper_0 5 rfl rfl)
theorem dX4_goDeeper_8 : decode cX4_goDeeper 8 = .ok (.aload_n 0, 1) := dk_42 (dk_at dksX4_goDeeper_0 8 rfl rfl)
theorem dX4_goDeeper_9 : decode cX4_goDeeper 9 = .ok (.getfield 130, 3) := dk_180 0 130 (dk_at dksX4_goDeeper_0 9 rfl rfl)
theorem dX4_goDeeper_12 : decode cX4_goDeeper 12 = .ok (.sipush 128, 3) := dk_17 0 128 (dk_at dksX4_goDeeper_0 12 rfl rfl)
theorem dX4_goDeeper_15 : decode cX4_goDeeper 15 = .ok (.iload_n 1, 1) := dk_27 (dk_at dksX4_goDeeper_0 15 rfl rfl)
theorem dX4_goDeeper_16 : decode cX4_goDeeper 16 = .ok (.imul, 1) := dk_104 (dk_at dksX4_goDeeper_0 16 rfl rfl)
theorem dX4_goDeeper_17 : decode cX4_goDeeper 17 = .ok (.iload_n 3, 1) := dk_29 (dk_at dksX4_goDeeper_0 17 rfl rfl)
theorem dX4_goDeeper_18 : decode cX4_goDeeper 18 = .ok (.iadd, 1) := dk_96 (dk_at dksX4_goDeeper_0 18 rfl rfl)
theorem dX4_goDeeper_19 : decode cX4_goDeeper 19 = .ok (.aload_n 0, 1) := dk_42 (dk_at dksX4_goDeeper_0 19 rfl rfl)
theorem dX4_goDeeper_20 : decode cX4_goDeeper 20 = .ok (.getfield 121, 3) := dk_180 0 121 (dk_at dksX4_goDeeper_0 20 rfl rfl)
theorem dX4_goDeeper_23 : decode cX4_goDeeper 23 = .ok (.iload_n 3, 1) := dk_29 (dk_at dksX4_goDeeper_0 23 rfl rfl)
theorem dX4_goDeeper_24 : decode cX4_goDeeper 24 = .ok (.iaload, 1) := dk_46 (dk_at dksX4_goDeeper_1 0 rfl rfl)
theorem dX4_goDeeper_25 : decode cX4_goDeeper 25 = .ok (.iastore, 1) := dk_79 (dk_at dksX4_goDeeper_1 1 rfl rfl)
theorem dX4_goDeeper_26 : decode cX4_goDeeper 26 = .ok (.iinc 3 1, 3) := dk_132 3 1 (dk_at dksX4_goDeeper_1 2 rfl rfl)
theorem dX4_goDeeper_29 : decode cX4_goDeeper 29 = .ok (.goto (-27), 3) := dk_167 255 229 (dk_at dksX4_goDeeper_1 5 rfl rfl)
theorem dX4_goDeeper_32 : decode cX4_goDeeper 32 = .ok (.aload_n 0, 1) := dk_42 (dk_at dksX4_goDeeper_1 8 rfl rfl)
theorem dX4_goDeeper_33 : decode cX4_goDeeper 33 = .ok (.getfield 133, 3) := dk_180 0 133 (dk_at dksX4_goDeeper_1 9 rfl rfl)
theorem dX4_goDeeper_36 : decode cX4_goDeeper 36 = .ok (.iload_n 1, 1) := dk_27 (dk_at dksX4_goDeeper_1 12 rfl rfl)
theorem dX4_goDeeper_37 : decode cX4_goDeeper 37 = .ok (.iload_n 2, 1) := dk_28 (dk_at dksX4_goDeeper_1 13 rfl rfl)
theorem dX4_goDeeper_38 : decode cX4_goDeeper 38 = .ok (.iastore, 1) := dk_79 (dk_at dksX4_goDeeper_1 14 rfl rfl)
theorem dX4_goDeeper_39 : decode cX4_goDeeper 39 = .ok (.aload_n 0, 1) := dk_42 (dk_at dksX4_goDeeper_1 15 rfl rfl)
theorem dX4_goDeeper_40 : decode cX4_goDeeper 40 = .ok (.getfield 136, 3) := dk_180 0 136 (dk_at dksX4_goDeeper_1 16 rfl rfl)
theorem dX4_goDeeper_43 : decode cX4_goDeeper 43 = .ok (.iload_n 1, 1) := dk_27 (dk_at dksX4_goDeeper_1 19 rfl rfl)
theorem dX4_goDeeper_44 : decode cX4_goDeeper 44 = .ok (.iconst (-1), 1) := dk_2 (dk_at dksX4_goDeeper_1 20 rfl rfl)
theorem dX4_goDeeper_45 : decode cX4_goDeeper 45 = .ok (.iastore, 1) := dk_79 (dk_at dksX4_goDeeper_1 21 rfl rfl)
theorem dX4_goDeeper_46 : decode cX4_goDeeper 46 = .ok (.aload_n 0, 1) := dk_42 (dk_at dksX4_goDeeper_1 22 rfl rfl)
theorem dX4_goDeeper_47 : decode cX4_goDeeper 47 = .ok (.getfield 139, 3) := dk_180 0 139 (dk_at dksX4_goDeeper_2 0 rfl rfl)
theorem dX4_goDeeper_50 : decode cX4_goDeeper 50 = .ok (.iload_n 1, 1) := dk_27 (dk_at dksX4_goDeeper_2 3 rfl rfl)
theorem dX4_goDeeper_51 : decode cX4_goDeeper 51 = .ok (.iconst 0, 1) := dk_3 (dk_at dksX4_goDeeper_2 4 rfl rfl)
theorem dX4_goDeeper_52 : decode cX4_goDeeper 52 = .ok (.iastore, 1) := dk_79 (dk_at dksX4_goDeeper_2 5 rfl rfl)
theorem dX4_goDeeper_53 : decode cX4_goDeeper 53 = .ok (.aload_n 0, 1) := dk_42 (dk_at dksX4_goDeeper_2 6 rfl rfl)
theorem dX4_goDeeper_54 : decode cX4_goDeeper 54 = .ok (.getfield 145, 3) := dk_180 0 145 (dk_at dksX4_goDeeper_2 7 rfl rfl)
theorem dX4_goDeeper_57 : decode cX4_goDeeper 57 = .ok (.iload_n 1, 1) := dk_27 (dk_at dksX4_goDeeper_2 10 rfl rfl)
theorem dX4_goDeeper_58 : decode cX4_goDeeper 58 = .ok (.iconst 0, 1) := dk_3 (dk_at dksX4_goDeeper_2 11 rfl rfl)
theorem dX4_goDeeper_59 : decode cX4_goDeeper 59 = .ok (.iastore, 1) := dk_79 (dk_at dksX4_goDeeper_2 12 rfl rfl)
theorem dX4_goDeeper_60 : decode cX4_goDeeper 60 = .ok (.aload_n 0, 1) := dk_42 (dk_at dksX4_goDeeper_2 13 rfl rfl)
theorem dX4_goDeeper_61 : decode cX4_goDeeper 61 = .ok (.getfield 148, 3) := dk_180 0 148 (dk_at dksX4_goDeeper_2 14 rfl rfl)
theorem dX4_goDeeper_64 : decode cX4_goDeeper 64 = .ok (.iload_n 1, 1) := dk_27 (dk_at dksX4_goDeeper_2 17 rfl rfl)
theorem dX4_goDeeper_65 : decode cX4_goDeeper 65 = .ok (.iconst (-1), 1) := dk_2 (dk_at dksX4_goDeeper_2 18 rfl rfl)
theorem dX4_goDeeper_66 : decode cX4_goDeeper 66 = .ok (.iastore, 1) := dk_79 (dk_at dksX4_goDeeper_2 19 rfl rfl)
theorem dX4_goDeeper_67 : decode cX4_goDeeper 67 = .ok (.aload_n 0, 1) := dk_42 (dk_at dksX4_goDeeper_2 20 rfl rfl)
theorem dX4_goDeeper_68 : decode cX4_goDeeper 68 = .ok (.dup, 1) := dk_89 (dk_at dksX4_goDeeper_2 21 rfl rfl)
theorem dX4_goDeeper_69 : decode cX4_goDeeper 69 = .ok (.getfield 590, 3) := dk_180 2 78 (dk_at dksX4_goDeeper_3 0 rfl rfl)
theorem dX4_goDeeper_72 : decode cX4_goDeeper 72 = .ok (.iconst 1, 1) := dk_4 (dk_at dksX4_goDeeper_3 3 rfl rfl)
theorem dX4_goDeeper_73 : decode cX4_goDeeper 73 = .ok (.iadd, 1) := dk_96 (dk_at dksX4_goDeeper_3 4 rfl rfl)
theorem dX4_goDeeper_74 : decode cX4_goDeeper 74 = .ok (.putfield 590, 3) := dk_181 2 78 (dk_at dksX4_goDeeper_3 5 rfl rfl)
theorem dX4_goDeeper_77 : decode cX4_goDeeper 77 = .ok (.return_, 1) := dk_177 (dk_at dksX4_goDeeper_3 8 rfl rfl)
abbrev cX4_loadRow : ByteArray := prog_23_method_94_code
def yX4_loadRow : MethodName := ⟨RX4, "loadRow", "(I)V"⟩
def dkwX4_loadRow_1 : List UInt8 := [46, 79, 132, 2, 1, 167, 255, 229, 177]
abbrev dktX4_loadRow_1 : List UInt8 := dkwX4_loadRow_1 ++ []
def dkwX4_loadRow_0 : List UInt8 := [3, 61, 28, 16, 123, 162, 0, 27, 42, 180, 0, 121, 28, 42, 180, 0, 130, 17, 0, 128, 27, 104, 28, 96]
abbrev dktX4_loadRow_0 : List UInt8 := dkwX4_loadRow_0 ++ dktX4_loadRow_1
theorem dksX4_loadRow_0 : cX4_loadRow.data.toList.drop 0 = dktX4_loadRow_0 := by decide +kernel
theorem dksX4_loadRow_1 : cX4_loadRow.data.toList.drop 24 = dktX4_loadRow_1 := dk_seg dksX4_loadRow_0 24 rfl rfl
theorem dX4_loadRow_0 : decode cX4_loadRow 0 = .ok (.iconst 0, 1) := dk_3 (dk_at dksX4_loadRow_0 0 rfl rfl)
theorem dX4_loadRow_1 : decode cX4_loadRow 1 = .ok (.istore_n 2, 1) := dk_61 (dk_at dksX4_loadRow_0 1 rfl rfl)
theorem dX4_loadRow_2 : decode cX4_loadRow 2 = .ok (.iload_n 2, 1) := dk_28 (dk_at dksX4_loadRow_0 2 rfl rfl)
theorem dX4_loadRow_3 : decode cX4_loadRow 3 = .ok (.bipush 123, 2) := dk_16 123 (dk_at dksX4_loadRow_0 3 rfl rfl)
theorem dX4_loadRow_5 : decode cX4_loadRow 5 = .ok (.if_icmp .ge 27, 3) := dk_162 0 27 (dk_at dksX4_loadRow_0 5 rfl rfl)
theorem dX4_loadRow_8 : decode cX4_loadRow 8 = .ok (.aload_n 0, 1) := dk_42 (dk_at dksX4_loadRow_0 8 rfl rfl)
theorem dX4_loadRow_9 : decode cX4_loadRow 9 = .ok (.getfield 121, 3) := dk_180 0 121 (dk_at dksX4_loadRow_0 9 rfl rfl)
theorem dX4_loadRow_12 : decode cX4_loadRow 12 = .ok (.iload_n 2, 1) := dk_28 (dk_at dksX4_loadRow_0 12 rfl rfl)
theorem dX4_loadRow_13 : decode cX4_loadRow 13 = .ok (.aload_n 0, 1) := dk_42 (dk_at dksX4_loadRow_0 13 rfl rfl)
theorem dX4_loadRow_14 : decode cX4_loadRow 14 = .ok (.getfield 130, 3) := dk_180 0 130 (dk_at dksX4_loadRow_0 14 rfl rfl)
theorem dX4_loadRow_17 : decode cX4_loadRow 17 = .ok (.sipush 128, 3) := dk_17 0 128 (dk_at dksX4_loadRow_0 17 rfl rfl)
theorem dX4_loadRow_20 : decode cX4_loadRow 20 = .ok (.iload_n 1, 1) := dk_27 (dk_at dksX4_loadRow_0 20 rfl rfl)
theorem dX4_loadRow_21 : decode cX4_loadRow 21 = .ok (.imul, 1) := dk_104 (dk_at dksX4_loadRow_0 21 rfl rfl)
theorem dX4_loadRow_22 : decode cX4_loadRow 22 = .ok (.iload_n 2, 1) := dk_28 (dk_at dksX4_loadRow_0 22 rfl rfl)
theorem dX4_loadRow_23 : decode cX4_loadRow 23 = .ok (.iadd, 1) := dk_96 (dk_at dksX4_loadRow_0 23 rfl rfl)
theorem dX4_loadRow_24 : decode cX4_loadRow 24 = .ok (.iaload, 1) := dk_46 (dk_at dksX4_loadRow_1 0 rfl rfl)
theorem dX4_loadRow_25 : decode cX4_loadRow 25 = .ok (.iastore, 1) := dk_79 (dk_at dksX4_loadRow_1 1 rfl rfl)
theorem dX4_loadRow_26 : decode cX4_loadRow 26 = .ok (.iinc 2 1, 3) := dk_132 2 1 (dk_at dksX4_loadRow_1 2 rfl rfl)
theorem dX4_loadRow_29 : decode cX4_loadRow 29 = .ok (.goto (-27), 3) := dk_167 255 229 (dk_at dksX4_loadRow_1 5 rfl rfl)
theorem dX4_loadRow_32 : decode cX4_loadRow 32 = .ok (.return_, 1) := dk_177 (dk_at dksX4_loadRow_1 8 rfl rfl)
abbrev cX4_mayGo : ByteArray := prog_23_method_96_code
def yX4_mayGo : MethodName := ⟨RX4, "mayGo", "(III)Z"⟩
def dkwX4_mayGo_3 : List UInt8 := [8, 108, 29, 8, 112, 182, 2, 36, 153, 0, 7, 4, 167, 0, 4, 3, 172]
abbrev dktX4_mayGo_3 : List UInt8 := dkwX4_mayGo_3 ++ []
def dkwX4_mayGo_2 : List UInt8 := [180, 1, 211, 162, 0, 36, 42, 180, 0, 133, 28, 46, 29, 8, 112, 184, 2, 17, 161, 0, 21, 42, 27, 29]
abbrev dktX4_mayGo_2 : List UInt8 := dkwX4_mayGo_2 ++ dktX4_mayGo_3
def dkwX4_mayGo_1 : List UInt8 := [104, 96, 46, 42, 180, 0, 106, 27, 46, 162, 0, 7, 4, 167, 0, 4, 3, 172, 29, 8, 108, 42]
abbrev dktX4_mayGo_1 : List UInt8 := dkwX4_mayGo_1 ++ dktX4_mayGo_2
def dkwX4_mayGo_0 : List UInt8 := [29, 16, 50, 160, 0, 39, 42, 180, 0, 133, 28, 46, 5, 161, 0, 27, 42, 180, 0, 121, 16, 50, 6, 27]
abbrev dktX4_mayGo_0 : List UInt8 := dkwX4_mayGo_0 ++ dktX4_mayGo_1
theorem dksX4_mayGo_0 : cX4_mayGo.data.toList.drop 0 = dktX4_mayGo_0 := by decide +kernel
theorem dksX4_mayGo_1 : cX4_mayGo.data.toList.drop 24 = dktX4_mayGo_1 := dk_seg dksX4_mayGo_0 24 rfl rfl
theorem dksX4_mayGo_2 : cX4_mayGo.data.toList.drop 46 = dktX4_mayGo_2 := dk_seg dksX4_mayGo_1 22 rfl rfl
theorem dksX4_mayGo_3 : cX4_mayGo.data.toList.drop 70 = dktX4_mayGo_3 := dk_seg dksX4_mayGo_2 24 rfl rfl
theorem dX4_mayGo_0 : decode cX4_mayGo 0 = .ok (.iload_n 3, 1) := dk_29 (dk_at dksX4_mayGo_0 0 rfl rfl)
theorem dX4_mayGo_1 : decode cX4_mayGo 1 = .ok (.bipush 50, 2) := dk_16 50 (dk_at dksX4_mayGo_0 1 rfl rfl)
theorem dX4_mayGo_3 : decode cX4_mayGo 3 = .ok (.if_icmp .ne 39, 3) := dk_160 0 39 (dk_at dksX4_mayGo_0 3 rfl rfl)
theorem dX4_mayGo_6 : decode cX4_mayGo 6 = .ok (.aload_n 0, 1) := dk_42 (dk_at dksX4_mayGo_0 6 rfl rfl)
theorem dX4_mayGo_7 : decode cX4_mayGo 7 = .ok (.getfield 133, 3) := dk_180 0 133 (dk_at dksX4_mayGo_0 7 rfl rfl)
theorem dX4_mayGo_10 : decode cX4_mayGo 10 = .ok (.iload_n 2, 1) := dk_28 (dk_at dksX4_mayGo_0 10 rfl rfl)
theorem dX4_mayGo_11 : decode cX4_mayGo 11 = .ok (.iaload, 1) := dk_46 (dk_at dksX4_mayGo_0 11 rfl rfl)
theorem dX4_mayGo_12 : decode cX4_mayGo 12 = .ok (.iconst 2, 1) := dk_5 (dk_at dksX4_mayGo_0 12 rfl rfl)
theorem dX4_mayGo_13 : decode cX4_mayGo 13 = .ok (.if_icmp .lt 27, 3) := dk_161 0 27 (dk_at dksX4_mayGo_0 13 rfl rfl)
theorem dX4_mayGo_16 : decode cX4_mayGo 16 = .ok (.aload_n 0, 1) := dk_42 (dk_at dksX4_mayGo_0 16 rfl rfl)
theorem dX4_mayGo_17 : decode cX4_mayGo 17 = .ok (.getfield 121, 3) := dk_180 0 121 (dk_at dksX4_mayGo_0 17 rfl rfl)
theorem dX4_mayGo_20 : decode cX4_mayGo 20 = .ok (.bipush 50, 2) := dk_16 50 (dk_at dksX4_mayGo_0 20 rfl rfl)
theorem dX4_mayGo_22 : decode cX4_mayGo 22 = .ok (.iconst 3, 1) := dk_6 (dk_at dksX4_mayGo_0 22 rfl rfl)
theorem dX4_mayGo_23 : decode cX4_mayGo 23 = .ok (.iload_n 1, 1) := dk_27 (dk_at dksX4_mayGo_0 23 rfl rfl)
theorem dX4_mayGo_24 : decode cX4_mayGo 24 = .ok (.imul, 1) := dk_104 (dk_at dksX4_mayGo_1 0 rfl rfl)
theorem dX4_mayGo_25 : decode cX4_mayGo 25 = .ok (.iadd, 1) := dk_96 (dk_at dksX4_mayGo_1 1 rfl rfl)
theorem dX4_mayGo_26 : decode cX4_mayGo 26 = .ok (.iaload, 1) := dk_46 (dk_at dksX4_mayGo_1 2 rfl rfl)
theorem dX4_mayGo_27 : decode cX4_mayGo 27 = .ok (.aload_n 0, 1) := dk_42 (dk_at dksX4_mayGo_1 3 rfl rfl)
theorem dX4_mayGo_28 : decode cX4_mayGo 28 = .ok (.getfield 106, 3) := dk_180 0 106 (dk_at dksX4_mayGo_1 4 rfl rfl)
theorem dX4_mayGo_31 : decode cX4_mayGo 31 = .ok (.iload_n 1, 1) := dk_27 (dk_at dksX4_mayGo_1 7 rfl rfl)
theorem dX4_mayGo_32 : decode cX4_mayGo 32 = .ok (.iaload, 1) := dk_46 (dk_at dksX4_mayGo_1 8 rfl rfl)
theorem dX4_mayGo_33 : decode cX4_mayGo 33 = .ok (.if_icmp .ge 7, 3) := dk_162 0 7 (dk_at dksX4_mayGo_1 9 rfl rfl)
theorem dX4_mayGo_36 : decode cX4_mayGo 36 = .ok (.iconst 1, 1) := dk_4 (dk_at dksX4_mayGo_1 12 rfl rfl)
theorem dX4_mayGo_37 : decode cX4_mayGo 37 = .ok (.goto 4, 3) := dk_167 0 4 (dk_at dksX4_mayGo_1 13 rfl rfl)
theorem dX4_mayGo_40 : decode cX4_mayGo 40 = .ok (.iconst 0, 1) := dk_3 (dk_at dksX4_mayGo_1 16 rfl rfl)
theorem dX4_mayGo_41 : decode cX4_mayGo 41 = .ok (.ireturn, 1) := dk_172 (dk_at dksX4_mayGo_1 17 rfl rfl)
theorem dX4_mayGo_42 : decode cX4_mayGo 42 = .ok (.iload_n 3, 1) := dk_29 (dk_at dksX4_mayGo_1 18 rfl rfl)
theorem dX4_mayGo_43 : decode cX4_mayGo 43 = .ok (.iconst 5, 1) := dk_8 (dk_at dksX4_mayGo_1 19 rfl rfl)
theorem dX4_mayGo_44 : decode cX4_mayGo 44 = .ok (.idiv, 1) := dk_108 (dk_at dksX4_mayGo_1 20 rfl rfl)
theorem dX4_mayGo_45 : decode cX4_mayGo 45 = .ok (.aload_n 0, 1) := dk_42 (dk_at dksX4_mayGo_1 21 rfl rfl)
theorem dX4_mayGo_46 : decode cX4_mayGo 46 = .ok (.getfield 467, 3) := dk_180 1 211 (dk_at dksX4_mayGo_2 0 rfl rfl)
theorem dX4_mayGo_49 : decode cX4_mayGo 49 = .ok (.if_icmp .ge 36, 3) := dk_162 0 36 (dk_at dksX4_mayGo_2 3 rfl rfl)
theorem dX4_mayGo_52 : decode cX4_mayGo 52 = .ok (.aload_n 0, 1) := dk_42 (dk_at dksX4_mayGo_2 6 rfl rfl)
theorem dX4_mayGo_53 : decode cX4_mayGo 53 = .ok (.getfield 133, 3) := dk_180 0 133 (dk_at dksX4_mayGo_2 7 rfl rfl)
theorem dX4_mayGo_56 : decode cX4_mayGo 56 = .ok (.iload_n 2, 1) := dk_28 (dk_at dksX4_mayGo_2 10 rfl rfl)
theorem dX4_mayGo_57 : decode cX4_mayGo 57 = .ok (.iaload, 1) := dk_46 (dk_at dksX4_mayGo_2 11 rfl rfl)
theorem dX4_mayGo_58 : decode cX4_mayGo 58 = .ok (.iload_n 3, 1) := dk_29 (dk_at dksX4_mayGo_2 12 rfl rfl)
theorem dX4_mayGo_59 : decode cX4_mayGo 59 = .ok (.iconst 5, 1) := dk_8 (dk_at dksX4_mayGo_2 13 rfl rfl)
theorem dX4_mayGo_60 : decode cX4_mayGo 60 = .ok (.irem, 1) := dk_112 (dk_at dksX4_mayGo_2 14 rfl rfl)
theorem dX4_mayGo_61 : decode cX4_mayGo 61 = .ok (.invokestatic 529, 3) := dk_184 2 17 (dk_at dksX4_mayGo_2 15 rfl rfl)
theorem dX4_mayGo_64 : decode cX4_mayGo 64 = .ok (.if_icmp .lt 21, 3) := dk_161 0 21 (dk_at dksX4_mayGo_2 18 rfl rfl)
theorem dX4_mayGo_67 : decode cX4_mayGo 67 = .ok (.aload_n 0, 1) := dk_42 (dk_at dksX4_mayGo_2 21 rfl rfl)
theorem dX4_mayGo_68 : decode cX4_mayGo 68 = .ok (.iload_n 1, 1) := dk_27 (dk_at dksX4_mayGo_2 22 rfl rfl)
theorem dX4_mayGo_69 : decode cX4_mayGo 69 = .ok (.iload_n 3, 1) := dk_29 (dk_at dksX4_mayGo_2 23 rfl rfl)
theorem dX4_mayGo_70 : decode cX4_mayGo 70 = .ok (.iconst 5, 1) := dk_8 (dk_at dksX4_mayGo_3 0 rfl rfl)
theorem dX4_mayGo_71 : decode cX4_mayGo 71 = .ok (.idiv, 1) := dk_108 (dk_at dksX4_mayGo_3 1 rfl rfl)
theorem dX4_mayGo_72 : decode cX4_mayGo 72 = .ok (.iload_n 3, 1) := dk_29 (dk_at dksX4_mayGo_3 2 rfl rfl)
theorem dX4_mayGo_73 : decode cX4_mayGo 73 = .ok (.iconst 5, 1) := dk_8 (dk_at dksX4_mayGo_3 3 rfl rfl)
theorem dX4_mayGo_74 : decode cX4_mayGo 74 = .ok (.irem, 1) := dk_112 (dk_at dksX4_mayGo_3 4 rfl rfl)
theorem dX4_mayGo_75 : decode cX4_mayGo 75 = .ok (.invokevirtual 548, 3) := dk_182 2 36 (dk_at dksX4_mayGo_3 5 rfl rfl)
theorem dX4_mayGo_78 : decode cX4_mayGo 78 = .ok (.ifCond .eq 7, 3) := dk_153 0 7 (dk_at dksX4_mayGo_3 8 rfl rfl)
theorem dX4_mayGo_81 : decode cX4_mayGo 81 = .ok (.iconst 1, 1) := dk_4 (dk_at dksX4_mayGo_3 11 rfl rfl)
theorem dX4_mayGo_82 : decode cX4_mayGo 82 = .ok (.goto 4, 3) := dk_167 0 4 (dk_at dksX4_mayGo_3 12 rfl rfl)
theorem dX4_mayGo_85 : decode cX4_mayGo 85 = .ok (.iconst 0, 1) := dk_3 (dk_at dksX4_mayGo_3 15 rfl rfl)
theorem dX4_mayGo_86 : decode cX4_mayGo 86 = .ok (.ireturn, 1) := dk_172 (dk_at dksX4_mayGo_3 16 rfl rfl)
abbrev cX4_weigh : ByteArray := prog_23_method_97_code
def yX4_weigh : MethodName := ⟨RX4, "weigh", "(II)V"⟩
def dkwX4_weigh_1 : List UInt8 := [180, 0, 136, 27, 46, 79, 177]
abbrev dktX4_weigh_1 : List UInt8 := dkwX4_weigh_1 ++ []
def dkwX4_weigh_0 : List UInt8 := [28, 42, 180, 0, 145, 27, 46, 163, 0, 4, 177, 42, 180, 0, 145, 27, 28, 79, 42, 180, 0, 148, 27, 42]
abbrev dktX4_weigh_0 : List UInt8 := dkwX4_weigh_0 ++ dktX4_weigh_1
theorem dksX4_weigh_0 : cX4_weigh.data.toList.drop 0 = dktX4_weigh_0 := by decide +kernel
theorem dksX4_weigh_1 : cX4_weigh.data.toList.drop 24 = dktX4_weigh_1 := dk_seg dksX4_weigh_0 24 rfl rfl
theorem dX4_weigh_0 : decode cX4_weigh 0 = .ok (.iload_n 2, 1) := dk_28 (dk_at dksX4_weigh_0 0 rfl rfl)
theorem dX4_weigh_1 : decode cX4_weigh 1 = .ok (.aload_n 0, 1) := dk_42 (dk_at dksX4_weigh_0 1 rfl rfl)
theorem dX4_weigh_2 : decode cX4_weigh 2 = .ok (.getfield 145, 3) := dk_180 0 145 (dk_at dksX4_weigh_0 2 rfl rfl)
theorem dX4_weigh_5 : decode cX4_weigh 5 = .ok (.iload_n 1, 1) := dk_27 (dk_at dksX4_weigh_0 5 rfl rfl)
theorem dX4_weigh_6 : decode cX4_weigh 6 = .ok (.iaload, 1) := dk_46 (dk_at dksX4_weigh_0 6 rfl rfl)
theorem dX4_weigh_7 : decode cX4_weigh 7 = .ok (.if_icmp .gt 4, 3) := dk_163 0 4 (dk_at dksX4_weigh_0 7 rfl rfl)
theorem dX4_weigh_10 : decode cX4_weigh 10 = .ok (.return_, 1) := dk_177 (dk_at dksX4_weigh_0 10 rfl rfl)
theorem dX4_weigh_11 : decode cX4_weigh 11 = .ok (.aload_n 0, 1) := dk_42 (dk_at dksX4_weigh_0 11 rfl rfl)
theorem dX4_weigh_12 : decode cX4_weigh 12 = .ok (.getfield 145, 3) := dk_180 0 145 (dk_at dksX4_weigh_0 12 rfl rfl)
theorem dX4_weigh_15 : decode cX4_weigh 15 = .ok (.iload_n 1, 1) := dk_27 (dk_at dksX4_weigh_0 15 rfl rfl)
theorem dX4_weigh_16 : decode cX4_weigh 16 = .ok (.iload_n 2, 1) := dk_28 (dk_at dksX4_weigh_0 16 rfl rfl)
theorem dX4_weigh_17 : decode cX4_weigh 17 = .ok (.iastore, 1) := dk_79 (dk_at dksX4_weigh_0 17 rfl rfl)
theorem dX4_weigh_18 : decode cX4_weigh 18 = .ok (.aload_n 0, 1) := dk_42 (dk_at dksX4_weigh_0 18 rfl rfl)
theorem dX4_weigh_19 : decode cX4_weigh 19 = .ok (.getfield 148, 3) := dk_180 0 148 (dk_at dksX4_weigh_0 19 rfl rfl)
theorem dX4_weigh_22 : decode cX4_weigh 22 = .ok (.iload_n 1, 1) := dk_27 (dk_at dksX4_weigh_0 22 rfl rfl)
theorem dX4_weigh_23 : decode cX4_weigh 23 = .ok (.aload_n 0, 1) := dk_42 (dk_at dksX4_weigh_0 23 rfl rfl)
theorem dX4_weigh_24 : decode cX4_weigh 24 = .ok (.getfield 136, 3) := dk_180 0 136 (dk_at dksX4_weigh_1 0 rfl rfl)
theorem dX4_weigh_27 : decode cX4_weigh 27 = .ok (.iload_n 1, 1) := dk_27 (dk_at dksX4_weigh_1 3 rfl rfl)
theorem dX4_weigh_28 : decode cX4_weigh 28 = .ok (.iaload, 1) := dk_46 (dk_at dksX4_weigh_1 4 rfl rfl)
theorem dX4_weigh_29 : decode cX4_weigh 29 = .ok (.iastore, 1) := dk_79 (dk_at dksX4_weigh_1 5 rfl rfl)
theorem dX4_weigh_30 : decode cX4_weigh 30 = .ok (.return_, 1) := dk_177 (dk_at dksX4_weigh_1 6 rfl rfl)
abbrev cX4_record : ByteArray := prog_23_method_100_code
def yX4_record : MethodName := ⟨RX4, "record", "(III)I"⟩
def dkwX4_record_2 : List UInt8 := [2, 172]
abbrev dktX4_record_2 : List UInt8 := dkwX4_record_2 ++ []
def dkwX4_record_1 : List UInt8 := [153, 0, 24, 42, 180, 0, 124, 16, 63, 16, 15, 27, 104, 96, 6, 28, 104, 96, 29, 96, 46, 167, 0, 4]
abbrev dktX4_record_1 : List UInt8 := dkwX4_record_1 ++ dktX4_record_2
def dkwX4_record_0 : List UInt8 := [42, 27, 182, 2, 51, 153, 0, 42, 28, 3, 7, 184, 1, 238, 153, 0, 33, 29, 3, 5, 184, 1, 238]
abbrev dktX4_record_0 : List UInt8 := dkwX4_record_0 ++ dktX4_record_1
theorem dksX4_record_0 : cX4_record.data.toList.drop 0 = dktX4_record_0 := by decide +kernel
theorem dksX4_record_1 : cX4_record.data.toList.drop 23 = dktX4_record_1 := dk_seg dksX4_record_0 23 rfl rfl
theorem dksX4_record_2 : cX4_record.data.toList.drop 47 = dktX4_record_2 := dk_seg dksX4_record_1 24 rfl rfl
theorem dX4_record_0 : decode cX4_record 0 = .ok (.aload_n 0, 1) := dk_42 (dk_at dksX4_record_0 0 rfl rfl)
theorem dX4_record_1 : decode cX4_record 1 = .ok (.iload_n 1, 1) := dk_27 (dk_at dksX4_record_0 1 rfl rfl)
theorem dX4_record_2 : decode cX4_record 2 = .ok (.invokevirtual 563, 3) := dk_182 2 51 (dk_at dksX4_record_0 2 rfl rfl)
theorem dX4_record_5 : decode cX4_record 5 = .ok (.ifCond .eq 42, 3) := dk_153 0 42 (dk_at dksX4_record_0 5 rfl rfl)
theorem dX4_record_8 : decode cX4_record 8 = .ok (.iload_n 2, 1) := dk_28 (dk_at dksX4_record_0 8 rfl rfl)
theorem dX4_record_9 : decode cX4_record 9 = .ok (.iconst 0, 1) := dk_3 (dk_at dksX4_record_0 9 rfl rfl)
theorem dX4_record_10 : decode cX4_record 10 = .ok (.iconst 4, 1) := dk_7 (dk_at dksX4_record_0 10 rfl rfl)
theorem dX4_record_11 : decode cX4_record 11 = .ok (.invokestatic 494, 3) := dk_184 1 238 (dk_at dksX4_record_0 11 rfl rfl)
theorem dX4_record_14 : decode cX4_record 14 = .ok (.ifCond .eq 33, 3) := dk_153 0 33 (dk_at dksX4_record_0 14 rfl rfl)
theorem dX4_record_17 : decode cX4_record 17 = .ok (.iload_n 3, 1) := dk_29 (dk_at dksX4_record_0 17 rfl rfl)
theorem dX4_record_18 : decode cX4_record 18 = .ok (.iconst 0, 1) := dk_3 (dk_at dksX4_record_0 18 rfl rfl)
theorem dX4_record_19 : decode cX4_record 19 = .ok (.iconst 2, 1) := dk_5 (dk_at dksX4_record_0 19 rfl rfl)
theorem dX4_record_20 : decode cX4_record 20 = .ok (.invokestatic 494, 3) := dk_184 1 238 (dk_at dksX4_record_0 20 rfl rfl)
theorem dX4_record_23 : decode cX4_record 23 = .ok (.ifCond .eq 24, 3) := dk_153 0 24 (dk_at dksX4_record_1 0 rfl rfl)
theorem dX4_record_26 : decode cX4_record 26 = .ok (.aload_n 0, 1) := dk_42 (dk_at dksX4_record_1 3 rfl rfl)
theorem dX4_record_27 : decode cX4_record 27 = .ok (.getfield 124, 3) := dk_180 0 124 (dk_at dksX4_record_1 4 rfl rfl)
theorem dX4_record_30 : decode cX4_record 30 = .ok (.bipush 63, 2) := dk_16 63 (dk_at dksX4_record_1 7 rfl rfl)
theorem dX4_record_32 : decode cX4_record 32 = .ok (.bipush 15, 2) := dk_16 15 (dk_at dksX4_record_1 9 rfl rfl)
theorem dX4_record_34 : decode cX4_record 34 = .ok (.iload_n 1, 1) := dk_27 (dk_at dksX4_record_1 11 rfl rfl)
theorem dX4_record_35 : decode cX4_record 35 = .ok (.imul, 1) := dk_104 (dk_at dksX4_record_1 12 rfl rfl)
theorem dX4_record_36 : decode cX4_record 36 = .ok (.iadd, 1) := dk_96 (dk_at dksX4_record_1 13 rfl rfl)
theorem dX4_record_37 : decode cX4_record 37 = .ok (.iconst 3, 1) := dk_6 (dk_at dksX4_record_1 14 rfl rfl)
theorem dX4_record_38 : decode cX4_record 38 = .ok (.iload_n 2, 1) := dk_28 (dk_at dksX4_record_1 15 rfl rfl)
theorem dX4_record_39 : decode cX4_record 39 = .ok (.imul, 1) := dk_104 (dk_at dksX4_record_1 16 rfl rfl)
theorem dX4_record_40 : decode cX4_record 40 = .ok (.iadd, 1) := dk_96 (dk_at dksX4_record_1 17 rfl rfl)
theorem dX4_record_41 : decode cX4_record 41 = .ok (.iload_n 3, 1) := dk_29 (dk_at dksX4_record_1 18 rfl rfl)
theorem dX4_record_42 : decode cX4_record 42 = .ok (.iadd, 1) := dk_96 (dk_at dksX4_record_1 19 rfl rfl)
theorem dX4_record_43 : decode cX4_record 43 = .ok (.iaload, 1) := dk_46 (dk_at dksX4_record_1 20 rfl rfl)
theorem dX4_record_44 : decode cX4_record 44 = .ok (.goto 4, 3) := dk_167 0 4 (dk_at dksX4_record_1 21 rfl rfl)
theorem dX4_record_47 : decode cX4_record 47 = .ok (.iconst (-1), 1) := dk_2 (dk_at dksX4_record_2 0 rfl rfl)
theorem dX4_record_48 : decode cX4_record 48 = .ok (.ireturn, 1) := dk_172 (dk_at dksX4_record_2 1 rfl rfl)
abbrev cX4_easier : ByteArray := prog_23_method_101_code
def yX4_easier : MethodName := ⟨RX4, "easier", "(II)I"⟩
def dkwX4_easier_2 : List UInt8 := [27, 28, 3, 182, 2, 26, 164, 0, 7, 4, 167, 0, 4, 3, 96, 62, 132, 4, 1, 167, 255, 207, 29, 172]
abbrev dktX4_easier_2 : List UInt8 := dkwX4_easier_2 ++ []
def dkwX4_easier_1 : List UInt8 := [162, 0, 46, 29, 42, 27, 21, 4, 3, 182, 2, 36, 153, 0, 25, 42, 27, 21, 4, 3, 182, 2, 26, 42]
abbrev dktX4_easier_1 : List UInt8 := dkwX4_easier_1 ++ dktX4_easier_2
def dkwX4_easier_0 : List UInt8 := [42, 27, 28, 3, 182, 2, 57, 154, 0, 5, 2, 172, 3, 62, 3, 54, 4, 21, 4, 42, 180, 1, 211]
abbrev dktX4_easier_0 : List UInt8 := dkwX4_easier_0 ++ dktX4_easier_1
theorem dksX4_easier_0 : cX4_easier.data.toList.drop 0 = dktX4_easier_0 := by decide +kernel
theorem dksX4_easier_1 : cX4_easier.data.toList.drop 23 = dktX4_easier_1 := dk_seg dksX4_easier_0 23 rfl rfl
theorem dksX4_easier_2 : cX4_easier.data.toList.drop 47 = dktX4_easier_2 := dk_seg dksX4_easier_1 24 rfl rfl
theorem dX4_easier_0 : decode cX4_easier 0 = .ok (.aload_n 0, 1) := dk_42 (dk_at dksX4_easier_0 0 rfl rfl)
theorem dX4_easier_1 : decode cX4_easier 1 = .ok (.iload_n 1, 1) := dk_27 (dk_at dksX4_easier_0 1 rfl rfl)
theorem dX4_easier_2 : decode cX4_easier 2 = .ok (.iload_n 2, 1) := dk_28 (dk_at dksX4_easier_0 2 rfl rfl)
theorem dX4_easier_3 : decode cX4_easier 3 = .ok (.iconst 0, 1) := dk_3 (dk_at dksX4_easier_0 3 rfl rfl)
theorem dX4_easier_4 : decode cX4_easier 4 = .ok (.invokevirtual 569, 3) := dk_182 2 57 (dk_at dksX4_easier_0 4 rfl rfl)
theorem dX4_easier_7 : decode cX4_easier 7 = .ok (.ifCond .ne 5, 3) := dk_154 0 5 (dk_at dksX4_easier_0 7 rfl rfl)
theorem dX4_easier_10 : decode cX4_easier 10 = .ok (.iconst (-1), 1) := dk_2 (dk_at dksX4_easier_0 10 rfl rfl)
theorem dX4_easier_11 : decode cX4_easier 11 = .ok (.ireturn, 1) := dk_172 (dk_at dksX4_easier_0 11 rfl rfl)
theorem dX4_easier_12 : decode cX4_easier 12 = .ok (.iconst 0, 1) := dk_3 (dk_at dksX4_easier_0 12 rfl rfl)
theorem dX4_easier_13 : decode cX4_easier 13 = .ok (.istore_n 3, 1) := dk_62 (dk_at dksX4_easier_0 13 rfl rfl)
theorem dX4_easier_14 : decode cX4_easier 14 = .ok (.iconst 0, 1) := dk_3 (dk_at dksX4_easier_0 14 rfl rfl)
theorem dX4_easier_15 : decode cX4_easier 15 = .ok (.istore 4, 2) := dk_54 4 (dk_at dksX4_easier_0 15 rfl rfl)
theorem dX4_easier_17 : decode cX4_easier 17 = .ok (.iload 4, 2) := dk_21 4 (dk_at dksX4_easier_0 17 rfl rfl)
theorem dX4_easier_19 : decode cX4_easier 19 = .ok (.aload_n 0, 1) := dk_42 (dk_at dksX4_easier_0 19 rfl rfl)
theorem dX4_easier_20 : decode cX4_easier 20 = .ok (.getfield 467, 3) := dk_180 1 211 (dk_at dksX4_easier_0 20 rfl rfl)
theorem dX4_easier_23 : decode cX4_easier 23 = .ok (.if_icmp .ge 46, 3) := dk_162 0 46 (dk_at dksX4_easier_1 0 rfl rfl)
theorem dX4_easier_26 : decode cX4_easier 26 = .ok (.iload_n 3, 1) := dk_29 (dk_at dksX4_easier_1 3 rfl rfl)
theorem dX4_easier_27 : decode cX4_easier 27 = .ok (.aload_n 0, 1) := dk_42 (dk_at dksX4_easier_1 4 rfl rfl)
theorem dX4_easier_28 : decode cX4_easier 28 = .ok (.iload_n 1, 1) := dk_27 (dk_at dksX4_easier_1 5 rfl rfl)
theorem dX4_easier_29 : decode cX4_easier 29 = .ok (.iload 4, 2) := dk_21 4 (dk_at dksX4_easier_1 6 rfl rfl)
theorem dX4_easier_31 : decode cX4_easier 31 = .ok (.iconst 0, 1) := dk_3 (dk_at dksX4_easier_1 8 rfl rfl)
theorem dX4_easier_32 : decode cX4_easier 32 = .ok (.invokevirtual 548, 3) := dk_182 2 36 (dk_at dksX4_easier_1 9 rfl rfl)
theorem dX4_easier_35 : decode cX4_easier 35 = .ok (.ifCond .eq 25, 3) := dk_153 0 25 (dk_at dksX4_easier_1 12 rfl rfl)
theorem dX4_easier_38 : decode cX4_easier 38 = .ok (.aload_n 0, 1) := dk_42 (dk_at dksX4_easier_1 15 rfl rfl)
theorem dX4_easier_39 : decode cX4_easier 39 = .ok (.iload_n 1, 1) := dk_27 (dk_at dksX4_easier_1 16 rfl rfl)
theorem dX4_easier_40 : decode cX4_easier 40 = .ok (.iload 4, 2) := dk_21 4 (dk_at dksX4_easier_1 17 rfl rfl)
theorem dX4_easier_42 : decode cX4_easier 42 = .ok (.iconst 0, 1) := dk_3 (dk_at dksX4_easier_1 19 rfl rfl)
theorem dX4_easier_43 : decode cX4_easier 43 = .ok (.invokevirtual 538, 3) := dk_182 2 26 (dk_at dksX4_easier_1 20 rfl rfl)
theorem dX4_easier_46 : decode cX4_easier 46 = .ok (.aload_n 0, 1) := dk_42 (dk_at dksX4_easier_1 23 rfl rfl)
theorem dX4_easier_47 : decode cX4_easier 47 = .ok (.iload_n 1, 1) := dk_27 (dk_at dksX4_easier_2 0 rfl rfl)
theorem dX4_easier_48 : decode cX4_easier 48 = .ok (.iload_n 2, 1) := dk_28 (dk_at dksX4_easier_2 1 rfl rfl)
theorem dX4_easier_49 : decode cX4_easier 49 = .ok (.iconst 0, 1) := dk_3 (dk_at dksX4_easier_2 2 rfl rfl)
theorem dX4_easier_50 : decode cX4_easier 50 = .ok (.invokevirtual 538, 3) := dk_182 2 26 (dk_at dksX4_easier_2 3 rfl rfl)
theorem dX4_easier_53 : decode cX4_easier 53 = .ok (.if_icmp .le 7, 3) := dk_164 0 7 (dk_at dksX4_easier_2 6 rfl rfl)
theorem dX4_easier_56 : decode cX4_easier 56 = .ok (.iconst 1, 1) := dk_4 (dk_at dksX4_easier_2 9 rfl rfl)
theorem dX4_easier_57 : decode cX4_easier 57 = .ok (.goto 4, 3) := dk_167 0 4 (dk_at dksX4_easier_2 10 rfl rfl)
theorem dX4_easier_60 : decode cX4_easier 60 = .ok (.iconst 0, 1) := dk_3 (dk_at dksX4_easier_2 13 rfl rfl)
theorem dX4_easier_61 : decode cX4_easier 61 = .ok (.iadd, 1) := dk_96 (dk_at dksX4_easier_2 14 rfl rfl)
theorem dX4_easier_62 : decode cX4_easier 62 = .ok (.istore_n 3, 1) := dk_62 (dk_at dksX4_easier_2 15 rfl rfl)
theorem dX4_easier_63 : decode cX4_easier 63 = .ok (.iinc 4 1, 3) := dk_132 4 1 (dk_at dksX4_easier_2 16 rfl rfl)
theorem dX4_easier_66 : decode cX4_easier 66 = .ok (.goto (-49), 3) := dk_167 255 207 (dk_at dksX4_easier_2 19 rfl rfl)
theorem dX4_easier_69 : decode cX4_easier 69 = .ok (.iload_n 3, 1) := dk_29 (dk_at dksX4_easier_2 22 rfl rfl)
theorem dX4_easier_70 : decode cX4_easier 70 = .ok (.ireturn, 1) := dk_172 (dk_at dksX4_easier_2 23 rfl rfl)
abbrev cX4_seat : ByteArray := prog_23_method_103_code
def yX4_seat : MethodName := ⟨RX4, "seat", "(III)I"⟩
def dkwX4_seat_9 : List UInt8 := [108, 167, 0, 5, 21, 7, 172]
abbrev dktX4_seat_9 : List UInt8 := dkwX4_seat_9 ++ []
def dkwX4_seat_8 : List UInt8 := [154, 0, 13, 21, 6, 42, 180, 1, 199, 112, 167, 0, 20, 29, 4, 160, 0, 13, 21, 6, 42, 180, 1, 199]
abbrev dktX4_seat_8 : List UInt8 := dkwX4_seat_8 ++ dktX4_seat_9
def dkwX4_seat_7 : List UInt8 := [132, 8, 1, 167, 255, 144, 42, 180, 0, 97, 27, 21, 4, 79, 42, 180, 0, 100, 27, 21, 5, 79, 29]
abbrev dktX4_seat_7 : List UInt8 := dkwX4_seat_7 ++ dktX4_seat_8
def dkwX4_seat_6 : List UInt8 := [182, 2, 97, 54, 11, 21, 11, 21, 7, 163, 0, 6, 167, 0, 11, 21, 8, 54, 6, 21, 11, 54, 7]
abbrev dktX4_seat_6 : List UInt8 := dkwX4_seat_6 ++ dktX4_seat_7
def dkwX4_seat_5 : List UInt8 := [167, 0, 45, 42, 180, 0, 97, 27, 21, 9, 79, 42, 180, 0, 100, 27, 21, 10, 79, 42, 27, 28]
abbrev dktX4_seat_5 : List UInt8 := dkwX4_seat_5 ++ dktX4_seat_6
def dkwX4_seat_4 : List UInt8 := [180, 1, 199, 4, 100, 162, 0, 22, 21, 10, 158, 0, 17, 21, 10, 42, 180, 1, 202, 4, 100, 162, 0, 6]
abbrev dktX4_seat_4 : List UInt8 := dkwX4_seat_4 ++ dktX4_seat_5
def dkwX4_seat_3 : List UInt8 := [180, 1, 199, 112, 54, 9, 21, 8, 42, 180, 1, 199, 108, 54, 10, 21, 9, 158, 0, 33, 21, 9, 42]
abbrev dktX4_seat_3 : List UInt8 := dkwX4_seat_3 ++ dktX4_seat_4
def dkwX4_seat_2 : List UInt8 := [2, 54, 7, 3, 54, 8, 21, 8, 42, 180, 1, 199, 42, 180, 1, 202, 104, 162, 0, 104, 21, 8, 42]
abbrev dktX4_seat_2 : List UInt8 := dkwX4_seat_2 ++ dktX4_seat_3
def dkwX4_seat_1 : List UInt8 := [154, 0, 5, 2, 172, 42, 180, 0, 97, 27, 46, 54, 4, 42, 180, 0, 100, 27, 46, 54, 5, 2, 54, 6]
abbrev dktX4_seat_1 : List UInt8 := dkwX4_seat_1 ++ dktX4_seat_2
def dkwX4_seat_0 : List UInt8 := [42, 27, 182, 2, 51, 153, 0, 22, 28, 4, 16, 10, 184, 1, 238, 153, 0, 12, 29, 3, 5, 184, 1, 238]
abbrev dktX4_seat_0 : List UInt8 := dkwX4_seat_0 ++ dktX4_seat_1
theorem dksX4_seat_0 : cX4_seat.data.toList.drop 0 = dktX4_seat_0 := by decide +kernel
theorem dksX4_seat_1 : cX4_seat.data.toList.drop 24 = dktX4_seat_1 := dk_seg dksX4_seat_0 24 rfl rfl
theorem dksX4_seat_2 : cX4_seat.data.toList.drop 48 = dktX4_seat_2 := dk_seg dksX4_seat_1 24 rfl rfl
theorem dksX4_seat_3 : cX4_seat.data.toList.drop 71 = dktX4_seat_3 := dk_seg dksX4_seat_2 23 rfl rfl
theorem dksX4_seat_4 : cX4_seat.data.toList.drop 94 = dktX4_seat_4 := dk_seg dksX4_seat_3 23 rfl rfl
theorem dksX4_seat_5 : cX4_seat.data.toList.drop 118 = dktX4_seat_5 := dk_seg dksX4_seat_4 24 rfl rfl
theorem dksX4_seat_6 : cX4_seat.data.toList.drop 140 = dktX4_seat_6 := dk_seg dksX4_seat_5 22 rfl rfl
theorem dksX4_seat_7 : cX4_seat.data.toList.drop 163 = dktX4_seat_7 := dk_seg dksX4_seat_6 23 rfl rfl
theorem dksX4_seat_8 : cX4_seat.data.toList.drop 186 = dktX4_seat_8 := dk_seg dksX4_seat_7 23 rfl rfl
theorem dksX4_seat_9 : cX4_seat.data.toList.drop 210 = dktX4_seat_9 := dk_seg dksX4_seat_8 24 rfl rfl
theorem dX4_seat_0 : decode cX4_seat 0 = .ok (.aload_n 0, 1) := dk_42 (dk_at dksX4_seat_0 0 rfl rfl)
theorem dX4_seat_1 : decode cX4_seat 1 = .ok (.iload_n 1, 1) := dk_27 (dk_at dksX4_seat_0 1 rfl rfl)
theorem dX4_seat_2 : decode cX4_seat 2 = .ok (.invokevirtual 563, 3) := dk_182 2 51 (dk_at dksX4_seat_0 2 rfl rfl)
theorem dX4_seat_5 : decode cX4_seat 5 = .ok (.ifCond .eq 22, 3) := dk_153 0 22 (dk_at dksX4_seat_0 5 rfl rfl)
theorem dX4_seat_8 : decode cX4_seat 8 = .ok (.iload_n 2, 1) := dk_28 (dk_at dksX4_seat_0 8 rfl rfl)
theorem dX4_seat_9 : decode cX4_seat 9 = .ok (.iconst 1, 1) := dk_4 (dk_at dksX4_seat_0 9 rfl rfl)
theorem dX4_seat_10 : decode cX4_seat 10 = .ok (.bipush 10, 2) := dk_16 10 (dk_at dksX4_seat_0 10 rfl rfl)
theorem dX4_seat_12 : decode cX4_seat 12 = .ok (.invokestatic 494, 3) := dk_184 1 238 (dk_at dksX4_seat_0 12 rfl rfl)
theorem dX4_seat_15 : decode cX4_seat 15 = .ok (.ifCond .eq 12, 3) := dk_153 0 12 (dk_at dksX4_seat_0 15 rfl rfl)
theorem dX4_seat_18 : decode cX4_seat 18 = .ok (.iload_n 3, 1) := dk_29 (dk_at dksX4_seat_0 18 rfl rfl)
theorem dX4_seat_19 : decode cX4_seat 19 = .ok (.iconst 0, 1) := dk_3 (dk_at dksX4_seat_0 19 rfl rfl)
theorem dX4_seat_20 : decode cX4_seat 20 = .ok (.iconst 2, 1) := dk_5 (dk_at dksX4_seat_0 20 rfl rfl)
theorem dX4_seat_21 : decode cX4_seat 21 = .ok (.invokestatic 494, 3) := dk_184 1 238 (dk_at dksX4_seat_0 21 rfl rfl)
theorem dX4_seat_24 : decode cX4_seat 24 = .ok (.ifCond .ne 5, 3) := dk_154 0 5 (dk_at dksX4_seat_1 0 rfl rfl)
theorem dX4_seat_27 : decode cX4_seat 27 = .ok (.iconst (-1), 1) := dk_2 (dk_at dksX4_seat_1 3 rfl rfl)
theorem dX4_seat_28 : decode cX4_seat 28 = .ok (.ireturn, 1) := dk_172 (dk_at dksX4_seat_1 4 rfl rfl)
theorem dX4_seat_29 : decode cX4_seat 29 = .ok (.aload_n 0, 1) := dk_42 (dk_at dksX4_seat_1 5 rfl rfl)
theorem dX4_seat_30 : decode cX4_seat 30 = .ok (.getfield 97, 3) := dk_180 0 97 (dk_at dksX4_seat_1 6 rfl rfl)
theorem dX4_seat_33 : decode cX4_seat 33 = .ok (.iload_n 1, 1) := dk_27 (dk_at dksX4_seat_1 9 rfl rfl)
theorem dX4_seat_34 : decode cX4_seat 34 = .ok (.iaload, 1) := dk_46 (dk_at dksX4_seat_1 10 rfl rfl)
theorem dX4_seat_35 : decode cX4_seat 35 = .ok (.istore 4, 2) := dk_54 4 (dk_at dksX4_seat_1 11 rfl rfl)
theorem dX4_seat_37 : decode cX4_seat 37 = .ok (.aload_n 0, 1) := dk_42 (dk_at dksX4_seat_1 13 rfl rfl)
theorem dX4_seat_38 : decode cX4_seat 38 = .ok (.getfield 100, 3) := dk_180 0 100 (dk_at dksX4_seat_1 14 rfl rfl)
theorem dX4_seat_41 : decode cX4_seat 41 = .ok (.iload_n 1, 1) := dk_27 (dk_at dksX4_seat_1 17 rfl rfl)
theorem dX4_seat_42 : decode cX4_seat 42 = .ok (.iaload, 1) := dk_46 (dk_at dksX4_seat_1 18 rfl rfl)
theorem dX4_seat_43 : decode cX4_seat 43 = .ok (.istore 5, 2) := dk_54 5 (dk_at dksX4_seat_1 19 rfl rfl)
theorem dX4_seat_45 : decode cX4_seat 45 = .ok (.iconst (-1), 1) := dk_2 (dk_at dksX4_seat_1 21 rfl rfl)
theorem dX4_seat_46 : decode cX4_seat 46 = .ok (.istore 6, 2) := dk_54 6 (dk_at dksX4_seat_1 22 rfl rfl)
theorem dX4_seat_48 : decode cX4_seat 48 = .ok (.iconst (-1), 1) := dk_2 (dk_at dksX4_seat_2 0 rfl rfl)
theorem dX4_seat_49 : decode cX4_seat 49 = .ok (.istore 7, 2) := dk_54 7 (dk_at dksX4_seat_2 1 rfl rfl)
theorem dX4_seat_51 : decode cX4_seat 51 = .ok (.iconst 0, 1) := dk_3 (dk_at dksX4_seat_2 3 rfl rfl)
theorem dX4_seat_52 : decode cX4_seat 52 = .ok (.istore 8, 2) := dk_54 8 (dk_at dksX4_seat_2 4 rfl rfl)
theorem dX4_seat_54 : decode cX4_seat 54 = .ok (.iload 8, 2) := dk_21 8 (dk_at dksX4_seat_2 6 rfl rfl)
theorem dX4_seat_56 : decode cX4_seat 56 = .ok (.aload_n 0, 1) := dk_42 (dk_at dksX4_seat_2 8 rfl rfl)
theorem dX4_seat_57 : decode cX4_seat 57 = .ok (.getfield 455, 3) := dk_180 1 199 (dk_at dksX4_seat_2 9 rfl rfl)
theorem dX4_seat_60 : decode cX4_seat 60 = .ok (.aload_n 0, 1) := dk_42 (dk_at dksX4_seat_2 12 rfl rfl)
theorem dX4_seat_61 : decode cX4_seat 61 = .ok (.getfield 458, 3) := dk_180 1 202 (dk_at dksX4_seat_2 13 rfl rfl)
theorem dX4_seat_64 : decode cX4_seat 64 = .ok (.imul, 1) := dk_104 (dk_at dksX4_seat_2 16 rfl rfl)
theorem dX4_seat_65 : decode cX4_seat 65 = .ok (.if_icmp .ge 104, 3) := dk_162 0 104 (dk_at dksX4_seat_2 17 rfl rfl)
theorem dX4_seat_68 : decode cX4_seat 68 = .ok (.iload 8, 2) := dk_21 8 (dk_at dksX4_seat_2 20 rfl rfl)
theorem dX4_seat_70 : decode cX4_seat 70 = .ok (.aload_n 0, 1) := dk_42 (dk_at dksX4_seat_2 22 rfl rfl)
theorem dX4_seat_71 : decode cX4_seat 71 = .ok (.getfield 455, 3) := dk_180 1 199 (dk_at dksX4_seat_3 0 rfl rfl)
theorem dX4_seat_74 : decode cX4_seat 74 = .ok (.irem, 1) := dk_112 (dk_at dksX4_seat_3 3 rfl rfl)
theorem dX4_seat_75 : decode cX4_seat 75 = .ok (.istore 9, 2) := dk_54 9 (dk_at dksX4_seat_3 4 rfl rfl)
theorem dX4_seat_77 : decode cX4_seat 77 = .ok (.iload 8, 2) := dk_21 8 (dk_at dksX4_seat_3 6 rfl rfl)
theorem dX4_seat_79 : decode cX4_seat 79 = .ok (.aload_n 0, 1) := dk_42 (dk_at dksX4_seat_3 8 rfl rfl)
theorem dX4_seat_80 : decode cX4_seat 80 = .ok (.getfield 455, 3) := dk_180 1 199 (dk_at dksX4_seat_3 9 rfl rfl)
theorem dX4_seat_83 : decode cX4_seat 83 = .ok (.idiv, 1) := dk_108 (dk_at dksX4_seat_3 12 rfl rfl)
theorem dX4_seat_84 : decode cX4_seat 84 = .ok (.istore 10, 2) := dk_54 10 (dk_at dksX4_seat_3 13 rfl rfl)
theorem dX4_seat_86 : decode cX4_seat 86 = .ok (.iload 9, 2) := dk_21 9 (dk_at dksX4_seat_3 15 rfl rfl)
theorem dX4_seat_88 : decode cX4_seat 88 = .ok (.ifCond .le 33, 3) := dk_158 0 33 (dk_at dksX4_seat_3 17 rfl rfl)
theorem dX4_seat_91 : decode cX4_seat 91 = .ok (.iload 9, 2) := dk_21 9 (dk_at dksX4_seat_3 20 rfl rfl)
theorem dX4_seat_93 : decode cX4_seat 93 = .ok (.aload_n 0, 1) := dk_42 (dk_at dksX4_seat_3 22 rfl rfl)
theorem dX4_seat_94 : decode cX4_seat 94 = .ok (.getfield 455, 3) := dk_180 1 199 (dk_at dksX4_seat_4 0 rfl rfl)
theorem dX4_seat_97 : decode cX4_seat 97 = .ok (.iconst 1, 1) := dk_4 (dk_at dksX4_seat_4 3 rfl rfl)
theorem dX4_seat_98 : decode cX4_seat 98 = .ok (.isub, 1) := dk_100 (dk_at dksX4_seat_4 4 rfl rfl)
theorem dX4_seat_99 : decode cX4_seat 99 = .ok (.if_icmp .ge 22, 3) := dk_162 0 22 (dk_at dksX4_seat_4 5 rfl rfl)
theorem dX4_seat_102 : decode cX4_seat 102 = .ok (.iload 10, 2) := dk_21 10 (dk_at dksX4_seat_4 8 rfl rfl)
theorem dX4_seat_104 : decode cX4_seat 104 = .ok (.ifCond .le 17, 3) := dk_158 0 17 (dk_at dksX4_seat_4 10 rfl rfl)
theorem dX4_seat_107 : decode cX4_seat 107 = .ok (.iload 10, 2) := dk_21 10 (dk_at dksX4_seat_4 13 rfl rfl)
theorem dX4_seat_109 : decode cX4_seat 109 = .ok (.aload_n 0, 1) := dk_42 (dk_at dksX4_seat_4 15 rfl rfl)
theorem dX4_seat_110 : decode cX4_seat 110 = .ok (.getfield 458, 3) := dk_180 1 202 (dk_at dksX4_seat_4 16 rfl rfl)
theorem dX4_seat_113 : decode cX4_seat 113 = .ok (.iconst 1, 1) := dk_4 (dk_at dksX4_seat_4 19 rfl rfl)
theorem dX4_seat_114 : decode cX4_seat 114 = .ok (.isub, 1) := dk_100 (dk_at dksX4_seat_4 20 rfl rfl)
theorem dX4_seat_115 : decode cX4_seat 115 = .ok (.if_icmp .ge 6, 3) := dk_162 0 6 (dk_at dksX4_seat_4 21 rfl rfl)
theorem dX4_seat_118 : decode cX4_seat 118 = .ok (.goto 45, 3) := dk_167 0 45 (dk_at dksX4_seat_5 0 rfl rfl)
theorem dX4_seat_121 : decode cX4_seat 121 = .ok (.aload_n 0, 1) := dk_42 (dk_at dksX4_seat_5 3 rfl rfl)
theorem dX4_seat_122 : decode cX4_seat 122 = .ok (.getfield 97, 3) := dk_180 0 97 (dk_at dksX4_seat_5 4 rfl rfl)
theorem dX4_seat_125 : decode cX4_seat 125 = .ok (.iload_n 1, 1) := dk_27 (dk_at dksX4_seat_5 7 rfl rfl)
theorem dX4_seat_126 : decode cX4_seat 126 = .ok (.iload 9, 2) := dk_21 9 (dk_at dksX4_seat_5 8 rfl rfl)
theorem dX4_seat_128 : decode cX4_seat 128 = .ok (.iastore, 1) := dk_79 (dk_at dksX4_seat_5 10 rfl rfl)
theorem dX4_seat_129 : decode cX4_seat 129 = .ok (.aload_n 0, 1) := dk_42 (dk_at dksX4_seat_5 11 rfl rfl)
theorem dX4_seat_130 : decode cX4_seat 130 = .ok (.getfield 100, 3) := dk_180 0 100 (dk_at dksX4_seat_5 12 rfl rfl)
theorem dX4_seat_133 : decode cX4_seat 133 = .ok (.iload_n 1, 1) := dk_27 (dk_at dksX4_seat_5 15 rfl rfl)
theorem dX4_seat_134 : decode cX4_seat 134 = .ok (.iload 10, 2) := dk_21 10 (dk_at dksX4_seat_5 16 rfl rfl)
theorem dX4_seat_136 : decode cX4_seat 136 = .ok (.iastore, 1) := dk_79 (dk_at dksX4_seat_5 18 rfl rfl)
theorem dX4_seat_137 : decode cX4_seat 137 = .ok (.aload_n 0, 1) := dk_42 (dk_at dksX4_seat_5 19 rfl rfl)
theorem dX4_seat_138 : decode cX4_seat 138 = .ok (.iload_n 1, 1) := dk_27 (dk_at dksX4_seat_5 20 rfl rfl)
theorem dX4_seat_139 : decode cX4_seat 139 = .ok (.iload_n 2, 1) := dk_28 (dk_at dksX4_seat_5 21 rfl rfl)
theorem dX4_seat_140 : decode cX4_seat 140 = .ok (.invokevirtual 609, 3) := dk_182 2 97 (dk_at dksX4_seat_6 0 rfl rfl)
theorem dX4_seat_143 : decode cX4_seat 143 = .ok (.istore 11, 2) := dk_54 11 (dk_at dksX4_seat_6 3 rfl rfl)
theorem dX4_seat_145 : decode cX4_seat 145 = .ok (.iload 11, 2) := dk_21 11 (dk_at dksX4_seat_6 5 rfl rfl)
theorem dX4_seat_147 : decode cX4_seat 147 = .ok (.iload 7, 2) := dk_21 7 (dk_at dksX4_seat_6 7 rfl rfl)
theorem dX4_seat_149 : decode cX4_seat 149 = .ok (.if_icmp .gt 6, 3) := dk_163 0 6 (dk_at dksX4_seat_6 9 rfl rfl)
theorem dX4_seat_152 : decode cX4_seat 152 = .ok (.goto 11, 3) := dk_167 0 11 (dk_at dksX4_seat_6 12 rfl rfl)
theorem dX4_seat_155 : decode cX4_seat 155 = .ok (.iload 8, 2) := dk_21 8 (dk_at dksX4_seat_6 15 rfl rfl)
theorem dX4_seat_157 : decode cX4_seat 157 = .ok (.istore 6, 2) := dk_54 6 (dk_at dksX4_seat_6 17 rfl rfl)
theorem dX4_seat_159 : decode cX4_seat 159 = .ok (.iload 11, 2) := dk_21 11 (dk_at dksX4_seat_6 19 rfl rfl)
theorem dX4_seat_161 : decode cX4_seat 161 = .ok (.istore 7, 2) := dk_54 7 (dk_at dksX4_seat_6 21 rfl rfl)
theorem dX4_seat_163 : decode cX4_seat 163 = .ok (.iinc 8 1, 3) := dk_132 8 1 (dk_at dksX4_seat_7 0 rfl rfl)
theorem dX4_seat_166 : decode cX4_seat 166 = .ok (.goto (-112), 3) := dk_167 255 144 (dk_at dksX4_seat_7 3 rfl rfl)
theorem dX4_seat_169 : decode cX4_seat 169 = .ok (.aload_n 0, 1) := dk_42 (dk_at dksX4_seat_7 6 rfl rfl)
theorem dX4_seat_170 : decode cX4_seat 170 = .ok (.getfield 97, 3) := dk_180 0 97 (dk_at dksX4_seat_7 7 rfl rfl)
theorem dX4_seat_173 : decode cX4_seat 173 = .ok (.iload_n 1, 1) := dk_27 (dk_at dksX4_seat_7 10 rfl rfl)
theorem dX4_seat_174 : decode cX4_seat 174 = .ok (.iload 4, 2) := dk_21 4 (dk_at dksX4_seat_7 11 rfl rfl)
theorem dX4_seat_176 : decode cX4_seat 176 = .ok (.iastore, 1) := dk_79 (dk_at dksX4_seat_7 13 rfl rfl)
theorem dX4_seat_177 : decode cX4_seat 177 = .ok (.aload_n 0, 1) := dk_42 (dk_at dksX4_seat_7 14 rfl rfl)
theorem dX4_seat_178 : decode cX4_seat 178 = .ok (.getfield 100, 3) := dk_180 0 100 (dk_at dksX4_seat_7 15 rfl rfl)
theorem dX4_seat_181 : decode cX4_seat 181 = .ok (.iload_n 1, 1) := dk_27 (dk_at dksX4_seat_7 18 rfl rfl)
theorem dX4_seat_182 : decode cX4_seat 182 = .ok (.iload 5, 2) := dk_21 5 (dk_at dksX4_seat_7 19 rfl rfl)
theorem dX4_seat_184 : decode cX4_seat 184 = .ok (.iastore, 1) := dk_79 (dk_at dksX4_seat_7 21 rfl rfl)
theorem dX4_seat_185 : decode cX4_seat 185 = .ok (.iload_n 3, 1) := dk_29 (dk_at dksX4_seat_7 22 rfl rfl)
theorem dX4_seat_186 : decode cX4_seat 186 = .ok (.ifCond .ne 13, 3) := dk_154 0 13 (dk_at dksX4_seat_8 0 rfl rfl)
theorem dX4_seat_189 : decode cX4_seat 189 = .ok (.iload 6, 2) := dk_21 6 (dk_at dksX4_seat_8 3 rfl rfl)
theorem dX4_seat_191 : decode cX4_seat 191 = .ok (.aload_n 0, 1) := dk_42 (dk_at dksX4_seat_8 5 rfl rfl)
theorem dX4_seat_192 : decode cX4_seat 192 = .ok (.getfield 455, 3) := dk_180 1 199 (dk_at dksX4_seat_8 6 rfl rfl)
theorem dX4_seat_195 : decode cX4_seat 195 = .ok (.irem, 1) := dk_112 (dk_at dksX4_seat_8 9 rfl rfl)
theorem dX4_seat_196 : decode cX4_seat 196 = .ok (.goto 20, 3) := dk_167 0 20 (dk_at dksX4_seat_8 10 rfl rfl)
theorem dX4_seat_199 : decode cX4_seat 199 = .ok (.iload_n 3, 1) := dk_29 (dk_at dksX4_seat_8 13 rfl rfl)
theorem dX4_seat_200 : decode cX4_seat 200 = .ok (.iconst 1, 1) := dk_4 (dk_at dksX4_seat_8 14 rfl rfl)
theorem dX4_seat_201 : decode cX4_seat 201 = .ok (.if_icmp .ne 13, 3) := dk_160 0 13 (dk_at dksX4_seat_8 15 rfl rfl)
theorem dX4_seat_204 : decode cX4_seat 204 = .ok (.iload 6, 2) := dk_21 6 (dk_at dksX4_seat_8 18 rfl rfl)
theorem dX4_seat_206 : decode cX4_seat 206 = .ok (.aload_n 0, 1) := dk_42 (dk_at dksX4_seat_8 20 rfl rfl)
theorem dX4_seat_207 : decode cX4_seat 207 = .ok (.getfield 455, 3) := dk_180 1 199 (dk_at dksX4_seat_8 21 rfl rfl)
theorem dX4_seat_210 : decode cX4_seat 210 = .ok (.idiv, 1) := dk_108 (dk_at dksX4_seat_9 0 rfl rfl)
theorem dX4_seat_211 : decode cX4_seat 211 = .ok (.goto 5, 3) := dk_167 0 5 (dk_at dksX4_seat_9 1 rfl rfl)
theorem dX4_seat_214 : decode cX4_seat 214 = .ok (.iload 7, 2) := dk_21 7 (dk_at dksX4_seat_9 4 rfl rfl)
theorem dX4_seat_216 : decode cX4_seat 216 = .ok (.ireturn, 1) := dk_172 (dk_at dksX4_seat_9 6 rfl rfl)
abbrev cX4_getsAlone : ByteArray := prog_23_method_102_code
def yX4_getsAlone : MethodName := ⟨RX4, "getsAlone", "(II)I"⟩
def dkwX4_getsAlone_1 : List UInt8 := [182, 2, 72, 153, 0, 7, 4, 167, 0, 4, 3, 96, 62, 132, 4, 1, 167, 255, 225, 29, 172]
abbrev dktX4_getsAlone_1 : List UInt8 := dkwX4_getsAlone_1 ++ []
def dkwX4_getsAlone_0 : List UInt8 := [42, 182, 2, 54, 3, 62, 3, 54, 4, 21, 4, 28, 162, 0, 31, 29, 42, 27, 42, 180, 0, 112, 27, 46]
abbrev dktX4_getsAlone_0 : List UInt8 := dkwX4_getsAlone_0 ++ dktX4_getsAlone_1
theorem dksX4_getsAlone_0 : cX4_getsAlone.data.toList.drop 0 = dktX4_getsAlone_0 := by decide +kernel
theorem dksX4_getsAlone_1 : cX4_getsAlone.data.toList.drop 24 = dktX4_getsAlone_1 := dk_seg dksX4_getsAlone_0 24 rfl rfl
theorem dX4_getsAlone_0 : decode cX4_getsAlone 0 = .ok (.aload_n 0, 1) := dk_42 (dk_at dksX4_getsAlone_0 0 rfl rfl)
theorem dX4_getsAlone_1 : decode cX4_getsAlone 1 = .ok (.invokevirtual 566, 3) := dk_182 2 54 (dk_at dksX4_getsAlone_0 1 rfl rfl)
theorem dX4_getsAlone_4 : decode cX4_getsAlone 4 = .ok (.iconst 0, 1) := dk_3 (dk_at dksX4_getsAlone_0 4 rfl rfl)
theorem dX4_getsAlone_5 : decode cX4_getsAlone 5 = .ok (.istore_n 3, 1) := dk_62 (dk_at dksX4_getsAlone_0 5 rfl rfl)
theorem dX4_getsAlone_6 : decode cX4_getsAlone 6 = .ok (.iconst 0, 1) := dk_3 (dk_at dksX4_getsAlone_0 6 rfl rfl)
theorem dX4_getsAlone_7 : decode cX4_getsAlone 7 = .ok (.istore 4, 2) := dk_54 4 (dk_at dksX4_getsAlone_0 7 rfl rfl)
theorem dX4_getsAlone_9 : decode cX4_getsAlone 9 = .ok (.iload 4, 2) := dk_21 4 (dk_at dksX4_getsAlone_0 9 rfl rfl)
theorem dX4_getsAlone_11 : decode cX4_getsAlone 11 = .ok (.iload_n 2, 1) := dk_28 (dk_at dksX4_getsAlone_0 11 rfl rfl)
theorem dX4_getsAlone_12 : decode cX4_getsAlone 12 = .ok (.if_icmp .ge 31, 3) := dk_162 0 31 (dk_at dksX4_getsAlone_0 12 rfl rfl)
theorem dX4_getsAlone_15 : decode cX4_getsAlone 15 = .ok (.iload_n 3, 1) := dk_29 (dk_at dksX4_getsAlone_0 15 rfl rfl)
theorem dX4_getsAlone_16 : decode cX4_getsAlone 16 = .ok (.aload_n 0, 1) := dk_42 (dk_at dksX4_getsAlone_0 16 rfl rfl)
theorem dX4_getsAlone_17 : decode cX4_getsAlone 17 = .ok (.iload_n 1, 1) := dk_27 (dk_at dksX4_getsAlone_0 17 rfl rfl)
theorem dX4_getsAlone_18 : decode cX4_getsAlone 18 = .ok (.aload_n 0, 1) := dk_42 (dk_at dksX4_getsAlone_0 18 rfl rfl)
theorem dX4_getsAlone_19 : decode cX4_getsAlone 19 = .ok (.getfield 112, 3) := dk_180 0 112 (dk_at dksX4_getsAlone_0 19 rfl rfl)
theorem dX4_getsAlone_22 : decode cX4_getsAlone 22 = .ok (.iload_n 1, 1) := dk_27 (dk_at dksX4_getsAlone_0 22 rfl rfl)
theorem dX4_getsAlone_23 : decode cX4_getsAlone 23 = .ok (.iaload, 1) := dk_46 (dk_at dksX4_getsAlone_0 23 rfl rfl)
theorem dX4_getsAlone_24 : decode cX4_getsAlone 24 = .ok (.invokevirtual 584, 3) := dk_182 2 72 (dk_at dksX4_getsAlone_1 0 rfl rfl)
theorem dX4_getsAlone_27 : decode cX4_getsAlone 27 = .ok (.ifCond .eq 7, 3) := dk_153 0 7 (dk_at dksX4_getsAlone_1 3 rfl rfl)
theorem dX4_getsAlone_30 : decode cX4_getsAlone 30 = .ok (.iconst 1, 1) := dk_4 (dk_at dksX4_getsAlone_1 6 rfl rfl)
theorem dX4_getsAlone_31 : decode cX4_getsAlone 31 = .ok (.goto 4, 3) := dk_167 0 4 (dk_at dksX4_getsAlone_1 7 rfl rfl)
theorem dX4_getsAlone_34 : decode cX4_getsAlone 34 = .ok (.iconst 0, 1) := dk_3 (dk_at dksX4_getsAlone_1 10 rfl rfl)
theorem dX4_getsAlone_35 : decode cX4_getsAlone 35 = .ok (.iadd, 1) := dk_96 (dk_at dksX4_getsAlone_1 11 rfl rfl)
theorem dX4_getsAlone_36 : decode cX4_getsAlone 36 = .ok (.istore_n 3, 1) := dk_62 (dk_at dksX4_getsAlone_1 12 rfl rfl)
theorem dX4_getsAlone_37 : decode cX4_getsAlone 37 = .ok (.iinc 4 1, 3) := dk_132 4 1 (dk_at dksX4_getsAlone_1 13 rfl rfl)
theorem dX4_getsAlone_40 : decode cX4_getsAlone 40 = .ok (.goto (-31), 3) := dk_167 255 225 (dk_at dksX4_getsAlone_1 16 rfl rfl)
theorem dX4_getsAlone_43 : decode cX4_getsAlone 43 = .ok (.iload_n 3, 1) := dk_29 (dk_at dksX4_getsAlone_1 19 rfl rfl)
theorem dX4_getsAlone_44 : decode cX4_getsAlone 44 = .ok (.ireturn, 1) := dk_172 (dk_at dksX4_getsAlone_1 20 rfl rfl)
abbrev cX4_order : ByteArray := prog_23_method_105_code
def yX4_order : MethodName := ⟨RX4, "order", "(I)I"⟩
def dkwX4_order_7 : List UInt8 := [42, 180, 1, 214, 181, 1, 235, 132, 3, 1, 167, 255, 102, 28, 172]
abbrev dktX4_order_7 : List UInt8 := dkwX4_order_7 ++ []
def dkwX4_order_6 : List UInt8 := [162, 0, 23, 42, 180, 0, 157, 21, 5, 42, 180, 0, 151, 21, 5, 46, 79, 132, 5, 1, 167, 255, 230, 42]
abbrev dktX4_order_6 : List UInt8 := dkwX4_order_6 ++ dktX4_order_7
def dkwX4_order_5 : List UInt8 := [167, 255, 193, 21, 4, 28, 163, 0, 6, 167, 0, 46, 21, 4, 61, 3, 54, 5, 21, 5, 42, 180, 1, 214]
abbrev dktX4_order_5 : List UInt8 := dkwX4_order_5 ++ dktX4_order_6
def dkwX4_order_4 : List UInt8 := [182, 2, 72, 153, 0, 7, 4, 167, 0, 4, 3, 96, 54, 4, 132, 6, 1, 167, 255, 208, 132, 5, 1]
abbrev dktX4_order_4 : List UInt8 := dkwX4_order_4 ++ dktX4_order_5
def dkwX4_order_3 : List UInt8 := [21, 4, 42, 42, 180, 0, 151, 21, 6, 46, 42, 180, 0, 112, 42, 180, 0, 151, 21, 6, 46, 46]
abbrev dktX4_order_3 : List UInt8 := dkwX4_order_3 ++ dktX4_order_4
def dkwX4_order_2 : List UInt8 := [3, 54, 4, 3, 54, 5, 21, 5, 27, 162, 0, 63, 3, 54, 6, 21, 6, 42, 180, 1, 214, 162, 0, 45]
abbrev dktX4_order_2 : List UInt8 := dkwX4_order_2 ++ dktX4_order_3
def dkwX4_order_1 : List UInt8 := [42, 180, 1, 214, 104, 120, 162, 0, 148, 42, 29, 182, 2, 100, 154, 0, 6, 167, 0, 131, 42, 182, 2, 54]
abbrev dktX4_order_1 : List UInt8 := dkwX4_order_1 ++ dktX4_order_2
def dkwX4_order_0 : List UInt8 := [42, 3, 181, 1, 235, 27, 4, 16, 10, 184, 1, 238, 154, 0, 5, 2, 172, 2, 61, 3, 62, 29, 4, 5]
abbrev dktX4_order_0 : List UInt8 := dkwX4_order_0 ++ dktX4_order_1
theorem dksX4_order_0 : cX4_order.data.toList.drop 0 = dktX4_order_0 := by decide +kernel
theorem dksX4_order_1 : cX4_order.data.toList.drop 24 = dktX4_order_1 := dk_seg dksX4_order_0 24 rfl rfl
theorem dksX4_order_2 : cX4_order.data.toList.drop 48 = dktX4_order_2 := dk_seg dksX4_order_1 24 rfl rfl
theorem dksX4_order_3 : cX4_order.data.toList.drop 72 = dktX4_order_3 := dk_seg dksX4_order_2 24 rfl rfl
theorem dksX4_order_4 : cX4_order.data.toList.drop 94 = dktX4_order_4 := dk_seg dksX4_order_3 22 rfl rfl
theorem dksX4_order_5 : cX4_order.data.toList.drop 117 = dktX4_order_5 := dk_seg dksX4_order_4 23 rfl rfl
theorem dksX4_order_6 : cX4_order.data.toList.drop 141 = dktX4_order_6 := dk_seg dksX4_order_5 24 rfl rfl
theorem dksX4_order_7 : cX4_order.data.toList.drop 165 = dktX4_order_7 := dk_seg dksX4_order_6 24 rfl rfl
theorem dX4_order_0 : decode cX4_order 0 = .ok (.aload_n 0, 1) := dk_42 (dk_at dksX4_order_0 0 rfl rfl)
theorem dX4_order_1 : decode cX4_order 1 = .ok (.iconst 0, 1) := dk_3 (dk_at dksX4_order_0 1 rfl rfl)
theorem dX4_order_2 : decode cX4_order 2 = .ok (.putfield 491, 3) := dk_181 1 235 (dk_at dksX4_order_0 2 rfl rfl)
theorem dX4_order_5 : decode cX4_order 5 = .ok (.iload_n 1, 1) := dk_27 (dk_at dksX4_order_0 5 rfl rfl)
theorem dX4_order_6 : decode cX4_order 6 = .ok (.iconst 1, 1) := dk_4 (dk_at dksX4_order_0 6 rfl rfl)
theorem dX4_order_7 : decode cX4_order 7 = .ok (.bipush 10, 2) := dk_16 10 (dk_at dksX4_order_0 7 rfl rfl)
theorem dX4_order_9 : decode cX4_order 9 = .ok (.invokestatic 494, 3) := dk_184 1 238 (dk_at dksX4_order_0 9 rfl rfl)
theorem dX4_order_12 : decode cX4_order 12 = .ok (.ifCond .ne 5, 3) := dk_154 0 5 (dk_at dksX4_order_0 12 rfl rfl)
theorem dX4_order_15 : decode cX4_order 15 = .ok (.iconst (-1), 1) := dk_2 (dk_at dksX4_order_0 15 rfl rfl)
theorem dX4_order_16 : decode cX4_order 16 = .ok (.ireturn, 1) := dk_172 (dk_at dksX4_order_0 16 rfl rfl)
theorem dX4_order_17 : decode cX4_order 17 = .ok (.iconst (-1), 1) := dk_2 (dk_at dksX4_order_0 17 rfl rfl)
theorem dX4_order_18 : decode cX4_order 18 = .ok (.istore_n 2, 1) := dk_61 (dk_at dksX4_order_0 18 rfl rfl)
theorem dX4_order_19 : decode cX4_order 19 = .ok (.iconst 0, 1) := dk_3 (dk_at dksX4_order_0 19 rfl rfl)
theorem dX4_order_20 : decode cX4_order 20 = .ok (.istore_n 3, 1) := dk_62 (dk_at dksX4_order_0 20 rfl rfl)
theorem dX4_order_21 : decode cX4_order 21 = .ok (.iload_n 3, 1) := dk_29 (dk_at dksX4_order_0 21 rfl rfl)
theorem dX4_order_22 : decode cX4_order 22 = .ok (.iconst 1, 1) := dk_4 (dk_at dksX4_order_0 22 rfl rfl)
theorem dX4_order_23 : decode cX4_order 23 = .ok (.iconst 2, 1) := dk_5 (dk_at dksX4_order_0 23 rfl rfl)
theorem dX4_order_24 : decode cX4_order 24 = .ok (.aload_n 0, 1) := dk_42 (dk_at dksX4_order_1 0 rfl rfl)
theorem dX4_order_25 : decode cX4_order 25 = .ok (.getfield 470, 3) := dk_180 1 214 (dk_at dksX4_order_1 1 rfl rfl)
theorem dX4_order_28 : decode cX4_order 28 = .ok (.imul, 1) := dk_104 (dk_at dksX4_order_1 4 rfl rfl)
theorem dX4_order_29 : decode cX4_order 29 = .ok (.ishl, 1) := dk_120 (dk_at dksX4_order_1 5 rfl rfl)
theorem dX4_order_30 : decode cX4_order 30 = .ok (.if_icmp .ge 148, 3) := dk_162 0 148 (dk_at dksX4_order_1 6 rfl rfl)
theorem dX4_order_33 : decode cX4_order 33 = .ok (.aload_n 0, 1) := dk_42 (dk_at dksX4_order_1 9 rfl rfl)
theorem dX4_order_34 : decode cX4_order 34 = .ok (.iload_n 3, 1) := dk_29 (dk_at dksX4_order_1 10 rfl rfl)
theorem dX4_order_35 : decode cX4_order 35 = .ok (.invokevirtual 612, 3) := dk_182 2 100 (dk_at dksX4_order_1 11 rfl rfl)
theorem dX4_order_38 : decode cX4_order 38 = .ok (.ifCond .ne 6, 3) := dk_154 0 6 (dk_at dksX4_order_1 14 rfl rfl)
theorem dX4_order_41 : decode cX4_order 41 = .ok (.goto 131, 3) := dk_167 0 131 (dk_at dksX4_order_1 17 rfl rfl)
theorem dX4_order_44 : decode cX4_order 44 = .ok (.aload_n 0, 1) := dk_42 (dk_at dksX4_order_1 20 rfl rfl)
theorem dX4_order_45 : decode cX4_order 45 = .ok (.invokevirtual 566, 3) := dk_182 2 54 (dk_at dksX4_order_1 21 rfl rfl)
theorem dX4_order_48 : decode cX4_order 48 = .ok (.iconst 0, 1) := dk_3 (dk_at dksX4_order_2 0 rfl rfl)
theorem dX4_order_49 : decode cX4_order 49 = .ok (.istore 4, 2) := dk_54 4 (dk_at dksX4_order_2 1 rfl rfl)
theorem dX4_order_51 : decode cX4_order 51 = .ok (.iconst 0, 1) := dk_3 (dk_at dksX4_order_2 3 rfl rfl)
theorem dX4_order_52 : decode cX4_order 52 = .ok (.istore 5, 2) := dk_54 5 (dk_at dksX4_order_2 4 rfl rfl)
theorem dX4_order_54 : decode cX4_order 54 = .ok (.iload 5, 2) := dk_21 5 (dk_at dksX4_order_2 6 rfl rfl)
theorem dX4_order_56 : decode cX4_order 56 = .ok (.iload_n 1, 1) := dk_27 (dk_at dksX4_order_2 8 rfl rfl)
theorem dX4_order_57 : decode cX4_order 57 = .ok (.if_icmp .ge 63, 3) := dk_162 0 63 (dk_at dksX4_order_2 9 rfl rfl)
theorem dX4_order_60 : decode cX4_order 60 = .ok (.iconst 0, 1) := dk_3 (dk_at dksX4_order_2 12 rfl rfl)
theorem dX4_order_61 : decode cX4_order 61 = .ok (.istore 6, 2) := dk_54 6 (dk_at dksX4_order_2 13 rfl rfl)
theorem dX4_order_63 : decode cX4_order 63 = .ok (.iload 6, 2) := dk_21 6 (dk_at dksX4_order_2 15 rfl rfl)
theorem dX4_order_65 : decode cX4_order 65 = .ok (.aload_n 0, 1) := dk_42 (dk_at dksX4_order_2 17 rfl rfl)
theorem dX4_order_66 : decode cX4_order 66 = .ok (.getfield 470, 3) := dk_180 1 214 (dk_at dksX4_order_2 18 rfl rfl)
theorem dX4_order_69 : decode cX4_order 69 = .ok (.if_icmp .ge 45, 3) := dk_162 0 45 (dk_at dksX4_order_2 21 rfl rfl)
theorem dX4_order_72 : decode cX4_order 72 = .ok (.iload 4, 2) := dk_21 4 (dk_at dksX4_order_3 0 rfl rfl)
theorem dX4_order_74 : decode cX4_order 74 = .ok (.aload_n 0, 1) := dk_42 (dk_at dksX4_order_3 2 rfl rfl)
theorem dX4_order_75 : decode cX4_order 75 = .ok (.aload_n 0, 1) := dk_42 (dk_at dksX4_order_3 3 rfl rfl)
theorem dX4_order_76 : decode cX4_order 76 = .ok (.getfield 151, 3) := dk_180 0 151 (dk_at dksX4_order_3 4 rfl rfl)
theorem dX4_order_79 : decode cX4_order 79 = .ok (.iload 6, 2) := dk_21 6 (dk_at dksX4_order_3 7 rfl rfl)
theorem dX4_order_81 : decode cX4_order 81 = .ok (.iaload, 1) := dk_46 (dk_at dksX4_order_3 9 rfl rfl)
theorem dX4_order_82 : decode cX4_order 82 = .ok (.aload_n 0, 1) := dk_42 (dk_at dksX4_order_3 10 rfl rfl)
theorem dX4_order_83 : decode cX4_order 83 = .ok (.getfield 112, 3) := dk_180 0 112 (dk_at dksX4_order_3 11 rfl rfl)
theorem dX4_order_86 : decode cX4_order 86 = .ok (.aload_n 0, 1) := dk_42 (dk_at dksX4_order_3 14 rfl rfl)
theorem dX4_order_87 : decode cX4_order 87 = .ok (.getfield 151, 3) := dk_180 0 151 (dk_at dksX4_order_3 15 rfl rfl)
theorem dX4_order_90 : decode cX4_order 90 = .ok (.iload 6, 2) := dk_21 6 (dk_at dksX4_order_3 18 rfl rfl)
theorem dX4_order_92 : decode cX4_order 92 = .ok (.iaload, 1) := dk_46 (dk_at dksX4_order_3 20 rfl rfl)
theorem dX4_order_93 : decode cX4_order 93 = .ok (.iaload, 1) := dk_46 (dk_at dksX4_order_3 21 rfl rfl)
theorem dX4_order_94 : decode cX4_order 94 = .ok (.invokevirtual 584, 3) := dk_182 2 72 (dk_at dksX4_order_4 0 rfl rfl)
theorem dX4_order_97 : decode cX4_order 97 = .ok (.ifCond .eq 7, 3) := dk_153 0 7 (dk_at dksX4_order_4 3 rfl rfl)
theorem dX4_order_100 : decode cX4_order 100 = .ok (.iconst 1, 1) := dk_4 (dk_at dksX4_order_4 6 rfl rfl)
theorem dX4_order_101 : decode cX4_order 101 = .ok (.goto 4, 3) := dk_167 0 4 (dk_at dksX4_order_4 7 rfl rfl)
theorem dX4_order_104 : decode cX4_order 104 = .ok (.iconst 0, 1) := dk_3 (dk_at dksX4_order_4 10 rfl rfl)
theorem dX4_order_105 : decode cX4_order 105 = .ok (.iadd, 1) := dk_96 (dk_at dksX4_order_4 11 rfl rfl)
theorem dX4_order_106 : decode cX4_order 106 = .ok (.istore 4, 2) := dk_54 4 (dk_at dksX4_order_4 12 rfl rfl)
theorem dX4_order_108 : decode cX4_order 108 = .ok (.iinc 6 1, 3) := dk_132 6 1 (dk_at dksX4_order_4 14 rfl rfl)
theorem dX4_order_111 : decode cX4_order 111 = .ok (.goto (-48), 3) := dk_167 255 208 (dk_at dksX4_order_4 17 rfl rfl)
theorem dX4_order_114 : decode cX4_order 114 = .ok (.iinc 5 1, 3) := dk_132 5 1 (dk_at dksX4_order_4 20 rfl rfl)
theorem dX4_order_117 : decode cX4_order 117 = .ok (.goto (-63), 3) := dk_167 255 193 (dk_at dksX4_order_5 0 rfl rfl)
theorem dX4_order_120 : decode cX4_order 120 = .ok (.iload 4, 2) := dk_21 4 (dk_at dksX4_order_5 3 rfl rfl)
theorem dX4_order_122 : decode cX4_order 122 = .ok (.iload_n 2, 1) := dk_28 (dk_at dksX4_order_5 5 rfl rfl)
theorem dX4_order_123 : decode cX4_order 123 = .ok (.if_icmp .gt 6, 3) := dk_163 0 6 (dk_at dksX4_order_5 6 rfl rfl)
theorem dX4_order_126 : decode cX4_order 126 = .ok (.goto 46, 3) := dk_167 0 46 (dk_at dksX4_order_5 9 rfl rfl)
theorem dX4_order_129 : decode cX4_order 129 = .ok (.iload 4, 2) := dk_21 4 (dk_at dksX4_order_5 12 rfl rfl)
theorem dX4_order_131 : decode cX4_order 131 = .ok (.istore_n 2, 1) := dk_61 (dk_at dksX4_order_5 14 rfl rfl)
theorem dX4_order_132 : decode cX4_order 132 = .ok (.iconst 0, 1) := dk_3 (dk_at dksX4_order_5 15 rfl rfl)
theorem dX4_order_133 : decode cX4_order 133 = .ok (.istore 5, 2) := dk_54 5 (dk_at dksX4_order_5 16 rfl rfl)
theorem dX4_order_135 : decode cX4_order 135 = .ok (.iload 5, 2) := dk_21 5 (dk_at dksX4_order_5 18 rfl rfl)
theorem dX4_order_137 : decode cX4_order 137 = .ok (.aload_n 0, 1) := dk_42 (dk_at dksX4_order_5 20 rfl rfl)
theorem dX4_order_138 : decode cX4_order 138 = .ok (.getfield 470, 3) := dk_180 1 214 (dk_at dksX4_order_5 21 rfl rfl)
theorem dX4_order_141 : decode cX4_order 141 = .ok (.if_icmp .ge 23, 3) := dk_162 0 23 (dk_at dksX4_order_6 0 rfl rfl)
theorem dX4_order_144 : decode cX4_order 144 = .ok (.aload_n 0, 1) := dk_42 (dk_at dksX4_order_6 3 rfl rfl)
theorem dX4_order_145 : decode cX4_order 145 = .ok (.getfield 157, 3) := dk_180 0 157 (dk_at dksX4_order_6 4 rfl rfl)
theorem dX4_order_148 : decode cX4_order 148 = .ok (.iload 5, 2) := dk_21 5 (dk_at dksX4_order_6 7 rfl rfl)
theorem dX4_order_150 : decode cX4_order 150 = .ok (.aload_n 0, 1) := dk_42 (dk_at dksX4_order_6 9 rfl rfl)
theorem dX4_order_151 : decode cX4_order 151 = .ok (.getfield 151, 3) := dk_180 0 151 (dk_at dksX4_order_6 10 rfl rfl)
theorem dX4_order_154 : decode cX4_order 154 = .ok (.iload 5, 2) := dk_21 5 (dk_at dksX4_order_6 13 rfl rfl)
theorem dX4_order_156 : decode cX4_order 156 = .ok (.iaload, 1) := dk_46 (dk_at dksX4_order_6 15 rfl rfl)
theorem dX4_order_157 : decode cX4_order 157 = .ok (.iastore, 1) := dk_79 (dk_at dksX4_order_6 16 rfl rfl)
theorem dX4_order_158 : decode cX4_order 158 = .ok (.iinc 5 1, 3) := dk_132 5 1 (dk_at dksX4_order_6 17 rfl rfl)
theorem dX4_order_161 : decode cX4_order 161 = .ok (.goto (-26), 3) := dk_167 255 230 (dk_at dksX4_order_6 20 rfl rfl)
theorem dX4_order_164 : decode cX4_order 164 = .ok (.aload_n 0, 1) := dk_42 (dk_at dksX4_order_6 23 rfl rfl)
theorem dX4_order_165 : decode cX4_order 165 = .ok (.aload_n 0, 1) := dk_42 (dk_at dksX4_order_7 0 rfl rfl)
theorem dX4_order_166 : decode cX4_order 166 = .ok (.getfield 470, 3) := dk_180 1 214 (dk_at dksX4_order_7 1 rfl rfl)
theorem dX4_order_169 : decode cX4_order 169 = .ok (.putfield 491, 3) := dk_181 1 235 (dk_at dksX4_order_7 4 rfl rfl)
theorem dX4_order_172 : decode cX4_order 172 = .ok (.iinc 3 1, 3) := dk_132 3 1 (dk_at dksX4_order_7 7 rfl rfl)
theorem dX4_order_175 : decode cX4_order 175 = .ok (.goto (-154), 3) := dk_167 255 102 (dk_at dksX4_order_7 10 rfl rfl)
theorem dX4_order_178 : decode cX4_order 178 = .ok (.iload_n 2, 1) := dk_28 (dk_at dksX4_order_7 13 rfl rfl)
theorem dX4_order_179 : decode cX4_order 179 = .ok (.ireturn, 1) := dk_172 (dk_at dksX4_order_7 14 rfl rfl)
abbrev cX4_layTurn : ByteArray := prog_23_method_104_code
def yX4_layTurn : MethodName := ⟨RX4, "layTurn", "(I)Z"⟩
def dkwX4_layTurn_2 : List UInt8 := [167, 255, 218, 28, 4, 42, 180, 1, 214, 120, 4, 100, 160, 0, 7, 4, 167, 0, 4, 3, 172]
abbrev dktX4_layTurn_2 : List UInt8 := dkwX4_layTurn_2 ++ []
def dkwX4_layTurn_1 : List UInt8 := [4, 100, 29, 100, 104, 122, 6, 126, 79, 28, 4, 42, 180, 0, 151, 29, 46, 120, 128, 61, 132, 3, 255]
abbrev dktX4_layTurn_1 : List UInt8 := dkwX4_layTurn_1 ++ dktX4_layTurn_2
def dkwX4_layTurn_0 : List UInt8 := [3, 61, 42, 180, 1, 214, 4, 100, 62, 29, 155, 0, 40, 42, 180, 0, 151, 29, 27, 5, 42, 180, 1, 214]
abbrev dktX4_layTurn_0 : List UInt8 := dkwX4_layTurn_0 ++ dktX4_layTurn_1
theorem dksX4_layTurn_0 : cX4_layTurn.data.toList.drop 0 = dktX4_layTurn_0 := by decide +kernel
theorem dksX4_layTurn_1 : cX4_layTurn.data.toList.drop 24 = dktX4_layTurn_1 := dk_seg dksX4_layTurn_0 24 rfl rfl
theorem dksX4_layTurn_2 : cX4_layTurn.data.toList.drop 47 = dktX4_layTurn_2 := dk_seg dksX4_layTurn_1 23 rfl rfl
theorem dX4_layTurn_0 : decode cX4_layTurn 0 = .ok (.iconst 0, 1) := dk_3 (dk_at dksX4_layTurn_0 0 rfl rfl)
theorem dX4_layTurn_1 : decode cX4_layTurn 1 = .ok (.istore_n 2, 1) := dk_61 (dk_at dksX4_layTurn_0 1 rfl rfl)
theorem dX4_layTurn_2 : decode cX4_layTurn 2 = .ok (.aload_n 0, 1) := dk_42 (dk_at dksX4_layTurn_0 2 rfl rfl)
theorem dX4_layTurn_3 : decode cX4_layTurn 3 = .ok (.getfield 470, 3) := dk_180 1 214 (dk_at dksX4_layTurn_0 3 rfl rfl)
theorem dX4_layTurn_6 : decode cX4_layTurn 6 = .ok (.iconst 1, 1) := dk_4 (dk_at dksX4_layTurn_0 6 rfl rfl)
theorem dX4_layTurn_7 : decode cX4_layTurn 7 = .ok (.isub, 1) := dk_100 (dk_at dksX4_layTurn_0 7 rfl rfl)
theorem dX4_layTurn_8 : decode cX4_layTurn 8 = .ok (.istore_n 3, 1) := dk_62 (dk_at dksX4_layTurn_0 8 rfl rfl)
theorem dX4_layTurn_9 : decode cX4_layTurn 9 = .ok (.iload_n 3, 1) := dk_29 (dk_at dksX4_layTurn_0 9 rfl rfl)
theorem dX4_layTurn_10 : decode cX4_layTurn 10 = .ok (.ifCond .lt 40, 3) := dk_155 0 40 (dk_at dksX4_layTurn_0 10 rfl rfl)
theorem dX4_layTurn_13 : decode cX4_layTurn 13 = .ok (.aload_n 0, 1) := dk_42 (dk_at dksX4_layTurn_0 13 rfl rfl)
theorem dX4_layTurn_14 : decode cX4_layTurn 14 = .ok (.getfield 151, 3) := dk_180 0 151 (dk_at dksX4_layTurn_0 14 rfl rfl)
theorem dX4_layTurn_17 : decode cX4_layTurn 17 = .ok (.iload_n 3, 1) := dk_29 (dk_at dksX4_layTurn_0 17 rfl rfl)
theorem dX4_layTurn_18 : decode cX4_layTurn 18 = .ok (.iload_n 1, 1) := dk_27 (dk_at dksX4_layTurn_0 18 rfl rfl)
theorem dX4_layTurn_19 : decode cX4_layTurn 19 = .ok (.iconst 2, 1) := dk_5 (dk_at dksX4_layTurn_0 19 rfl rfl)
theorem dX4_layTurn_20 : decode cX4_layTurn 20 = .ok (.aload_n 0, 1) := dk_42 (dk_at dksX4_layTurn_0 20 rfl rfl)
theorem dX4_layTurn_21 : decode cX4_layTurn 21 = .ok (.getfield 470, 3) := dk_180 1 214 (dk_at dksX4_layTurn_0 21 rfl rfl)
theorem dX4_layTurn_24 : decode cX4_layTurn 24 = .ok (.iconst 1, 1) := dk_4 (dk_at dksX4_layTurn_1 0 rfl rfl)
theorem dX4_layTurn_25 : decode cX4_layTurn 25 = .ok (.isub, 1) := dk_100 (dk_at dksX4_layTurn_1 1 rfl rfl)
theorem dX4_layTurn_26 : decode cX4_layTurn 26 = .ok (.iload_n 3, 1) := dk_29 (dk_at dksX4_layTurn_1 2 rfl rfl)
theorem dX4_layTurn_27 : decode cX4_layTurn 27 = .ok (.isub, 1) := dk_100 (dk_at dksX4_layTurn_1 3 rfl rfl)
theorem dX4_layTurn_28 : decode cX4_layTurn 28 = .ok (.imul, 1) := dk_104 (dk_at dksX4_layTurn_1 4 rfl rfl)
theorem dX4_layTurn_29 : decode cX4_layTurn 29 = .ok (.ishr, 1) := dk_122 (dk_at dksX4_layTurn_1 5 rfl rfl)
theorem dX4_layTurn_30 : decode cX4_layTurn 30 = .ok (.iconst 3, 1) := dk_6 (dk_at dksX4_layTurn_1 6 rfl rfl)
theorem dX4_layTurn_31 : decode cX4_layTurn 31 = .ok (.iand, 1) := dk_126 (dk_at dksX4_layTurn_1 7 rfl rfl)
theorem dX4_layTurn_32 : decode cX4_layTurn 32 = .ok (.iastore, 1) := dk_79 (dk_at dksX4_layTurn_1 8 rfl rfl)
theorem dX4_layTurn_33 : decode cX4_layTurn 33 = .ok (.iload_n 2, 1) := dk_28 (dk_at dksX4_layTurn_1 9 rfl rfl)
theorem dX4_layTurn_34 : decode cX4_layTurn 34 = .ok (.iconst 1, 1) := dk_4 (dk_at dksX4_layTurn_1 10 rfl rfl)
theorem dX4_layTurn_35 : decode cX4_layTurn 35 = .ok (.aload_n 0, 1) := dk_42 (dk_at dksX4_layTurn_1 11 rfl rfl)
theorem dX4_layTurn_36 : decode cX4_layTurn 36 = .ok (.getfield 151, 3) := dk_180 0 151 (dk_at dksX4_layTurn_1 12 rfl rfl)
theorem dX4_layTurn_39 : decode cX4_layTurn 39 = .ok (.iload_n 3, 1) := dk_29 (dk_at dksX4_layTurn_1 15 rfl rfl)
theorem dX4_layTurn_40 : decode cX4_layTurn 40 = .ok (.iaload, 1) := dk_46 (dk_at dksX4_layTurn_1 16 rfl rfl)
theorem dX4_layTurn_41 : decode cX4_layTurn 41 = .ok (.ishl, 1) := dk_120 (dk_at dksX4_layTurn_1 17 rfl rfl)
theorem dX4_layTurn_42 : decode cX4_layTurn 42 = .ok (.ior, 1) := dk_128 (dk_at dksX4_layTurn_1 18 rfl rfl)
theorem dX4_layTurn_43 : decode cX4_layTurn 43 = .ok (.istore_n 2, 1) := dk_61 (dk_at dksX4_layTurn_1 19 rfl rfl)
theorem dX4_layTurn_44 : decode cX4_layTurn 44 = .ok (.iinc 3 (-1), 3) := dk_132 3 255 (dk_at dksX4_layTurn_1 20 rfl rfl)
theorem dX4_layTurn_47 : decode cX4_layTurn 47 = .ok (.goto (-38), 3) := dk_167 255 218 (dk_at dksX4_layTurn_2 0 rfl rfl)
theorem dX4_layTurn_50 : decode cX4_layTurn 50 = .ok (.iload_n 2, 1) := dk_28 (dk_at dksX4_layTurn_2 3 rfl rfl)
theorem dX4_layTurn_51 : decode cX4_layTurn 51 = .ok (.iconst 1, 1) := dk_4 (dk_at dksX4_layTurn_2 4 rfl rfl)
theorem dX4_layTurn_52 : decode cX4_layTurn 52 = .ok (.aload_n 0, 1) := dk_42 (dk_at dksX4_layTurn_2 5 rfl rfl)
theorem dX4_layTurn_53 : decode cX4_layTurn 53 = .ok (.getfield 470, 3) := dk_180 1 214 (dk_at dksX4_layTurn_2 6 rfl rfl)
theorem dX4_layTurn_56 : decode cX4_layTurn 56 = .ok (.ishl, 1) := dk_120 (dk_at dksX4_layTurn_2 9 rfl rfl)
theorem dX4_layTurn_57 : decode cX4_layTurn 57 = .ok (.iconst 1, 1) := dk_4 (dk_at dksX4_layTurn_2 10 rfl rfl)
theorem dX4_layTurn_58 : decode cX4_layTurn 58 = .ok (.isub, 1) := dk_100 (dk_at dksX4_layTurn_2 11 rfl rfl)
theorem dX4_layTurn_59 : decode cX4_layTurn 59 = .ok (.if_icmp .ne 7, 3) := dk_160 0 7 (dk_at dksX4_layTurn_2 12 rfl rfl)
theorem dX4_layTurn_62 : decode cX4_layTurn 62 = .ok (.iconst 1, 1) := dk_4 (dk_at dksX4_layTurn_2 15 rfl rfl)
theorem dX4_layTurn_63 : decode cX4_layTurn 63 = .ok (.goto 4, 3) := dk_167 0 4 (dk_at dksX4_layTurn_2 16 rfl rfl)
theorem dX4_layTurn_66 : decode cX4_layTurn 66 = .ok (.iconst 0, 1) := dk_3 (dk_at dksX4_layTurn_2 19 rfl rfl)
theorem dX4_layTurn_67 : decode cX4_layTurn 67 = .ok (.ireturn, 1) := dk_172 (dk_at dksX4_layTurn_2 20 rfl rfl)
abbrev cX4_drives : ByteArray := prog_23_method_107_code
def yX4_drives : MethodName := ⟨RX4, "drives", "(III)I"⟩
def dkwX4_drives_6 : List UInt8 := [104, 54, 4, 132, 5, 1, 167, 255, 166, 2, 172]
abbrev dktX4_drives_6 : List UInt8 := dkwX4_drives_6 ++ []
def dkwX4_drives_5 : List UInt8 := [167, 255, 232, 42, 21, 5, 181, 1, 235, 21, 5, 172, 132, 6, 1, 167, 255, 190, 21, 4, 42, 180, 1, 211]
abbrev dktX4_drives_5 : List UInt8 := dkwX4_drives_5 ++ dktX4_drives_6
def dkwX4_drives_4 : List UInt8 := [21, 7, 21, 5, 162, 0, 23, 42, 180, 0, 157, 21, 7, 42, 180, 0, 154, 21, 7, 46, 79, 132, 7, 1]
abbrev dktX4_drives_4 : List UInt8 := dkwX4_drives_4 ++ dktX4_drives_5
def dkwX4_drives_3 : List UInt8 := [162, 0, 65, 42, 27, 28, 29, 21, 5, 21, 6, 182, 2, 103, 154, 0, 6, 167, 0, 42, 3, 54, 7]
abbrev dktX4_drives_3 : List UInt8 := dkwX4_drives_3 ++ dktX4_drives_4
def dkwX4_drives_2 : List UInt8 := [16, 254, 172, 4, 54, 4, 3, 54, 5, 21, 5, 7, 163, 0, 90, 3, 54, 6, 21, 6, 21, 4]
abbrev dktX4_drives_2 : List UInt8 := dkwX4_drives_2 ++ dktX4_drives_3
def dkwX4_drives_1 : List UInt8 := [153, 0, 24, 27, 28, 159, 0, 19, 42, 29, 182, 2, 48, 153, 0, 11, 42, 29, 182, 1, 245, 154, 0, 6]
abbrev dktX4_drives_1 : List UInt8 := dkwX4_drives_1 ++ dktX4_drives_2
def dkwX4_drives_0 : List UInt8 := [42, 3, 181, 1, 235, 42, 182, 2, 54, 42, 27, 182, 2, 51, 153, 0, 32, 42, 28, 182, 2, 51]
abbrev dktX4_drives_0 : List UInt8 := dkwX4_drives_0 ++ dktX4_drives_1
theorem dksX4_drives_0 : cX4_drives.data.toList.drop 0 = dktX4_drives_0 := by decide +kernel
theorem dksX4_drives_1 : cX4_drives.data.toList.drop 22 = dktX4_drives_1 := dk_seg dksX4_drives_0 22 rfl rfl
theorem dksX4_drives_2 : cX4_drives.data.toList.drop 46 = dktX4_drives_2 := dk_seg dksX4_drives_1 24 rfl rfl
theorem dksX4_drives_3 : cX4_drives.data.toList.drop 68 = dktX4_drives_3 := dk_seg dksX4_drives_2 22 rfl rfl
theorem dksX4_drives_4 : cX4_drives.data.toList.drop 91 = dktX4_drives_4 := dk_seg dksX4_drives_3 23 rfl rfl
theorem dksX4_drives_5 : cX4_drives.data.toList.drop 115 = dktX4_drives_5 := dk_seg dksX4_drives_4 24 rfl rfl
theorem dksX4_drives_6 : cX4_drives.data.toList.drop 139 = dktX4_drives_6 := dk_seg dksX4_drives_5 24 rfl rfl
theorem dX4_drives_0 : decode cX4_drives 0 = .ok (.aload_n 0, 1) := dk_42 (dk_at dksX4_drives_0 0 rfl rfl)
theorem dX4_drives_1 : decode cX4_drives 1 = .ok (.iconst 0, 1) := dk_3 (dk_at dksX4_drives_0 1 rfl rfl)
theorem dX4_drives_2 : decode cX4_drives 2 = .ok (.putfield 491, 3) := dk_181 1 235 (dk_at dksX4_drives_0 2 rfl rfl)
theorem dX4_drives_5 : decode cX4_drives 5 = .ok (.aload_n 0, 1) := dk_42 (dk_at dksX4_drives_0 5 rfl rfl)
theorem dX4_drives_6 : decode cX4_drives 6 = .ok (.invokevirtual 566, 3) := dk_182 2 54 (dk_at dksX4_drives_0 6 rfl rfl)
theorem dX4_drives_9 : decode cX4_drives 9 = .ok (.aload_n 0, 1) := dk_42 (dk_at dksX4_drives_0 9 rfl rfl)
theorem dX4_drives_10 : decode cX4_drives 10 = .ok (.iload_n 1, 1) := dk_27 (dk_at dksX4_drives_0 10 rfl rfl)
theorem dX4_drives_11 : decode cX4_drives 11 = .ok (.invokevirtual 563, 3) := dk_182 2 51 (dk_at dksX4_drives_0 11 rfl rfl)
theorem dX4_drives_14 : decode cX4_drives 14 = .ok (.ifCond .eq 32, 3) := dk_153 0 32 (dk_at dksX4_drives_0 14 rfl rfl)
theorem dX4_drives_17 : decode cX4_drives 17 = .ok (.aload_n 0, 1) := dk_42 (dk_at dksX4_drives_0 17 rfl rfl)
theorem dX4_drives_18 : decode cX4_drives 18 = .ok (.iload_n 2, 1) := dk_28 (dk_at dksX4_drives_0 18 rfl rfl)
theorem dX4_drives_19 : decode cX4_drives 19 = .ok (.invokevirtual 563, 3) := dk_182 2 51 (dk_at dksX4_drives_0 19 rfl rfl)
theorem dX4_drives_22 : decode cX4_drives 22 = .ok (.ifCond .eq 24, 3) := dk_153 0 24 (dk_at dksX4_drives_1 0 rfl rfl)
theorem dX4_drives_25 : decode cX4_drives 25 = .ok (.iload_n 1, 1) := dk_27 (dk_at dksX4_drives_1 3 rfl rfl)
theorem dX4_drives_26 : decode cX4_drives 26 = .ok (.iload_n 2, 1) := dk_28 (dk_at dksX4_drives_1 4 rfl rfl)
theorem dX4_drives_27 : decode cX4_drives 27 = .ok (.if_icmp .eq 19, 3) := dk_159 0 19 (dk_at dksX4_drives_1 5 rfl rfl)
theorem dX4_drives_30 : decode cX4_drives 30 = .ok (.aload_n 0, 1) := dk_42 (dk_at dksX4_drives_1 8 rfl rfl)
theorem dX4_drives_31 : decode cX4_drives 31 = .ok (.iload_n 3, 1) := dk_29 (dk_at dksX4_drives_1 9 rfl rfl)
theorem dX4_drives_32 : decode cX4_drives 32 = .ok (.invokevirtual 560, 3) := dk_182 2 48 (dk_at dksX4_drives_1 10 rfl rfl)
theorem dX4_drives_35 : decode cX4_drives 35 = .ok (.ifCond .eq 11, 3) := dk_153 0 11 (dk_at dksX4_drives_1 13 rfl rfl)
theorem dX4_drives_38 : decode cX4_drives 38 = .ok (.aload_n 0, 1) := dk_42 (dk_at dksX4_drives_1 16 rfl rfl)
theorem dX4_drives_39 : decode cX4_drives 39 = .ok (.iload_n 3, 1) := dk_29 (dk_at dksX4_drives_1 17 rfl rfl)
theorem dX4_drives_40 : decode cX4_drives 40 = .ok (.invokevirtual 501, 3) := dk_182 1 245 (dk_at dksX4_drives_1 18 rfl rfl)
theorem dX4_drives_43 : decode cX4_drives 43 = .ok (.ifCond .ne 6, 3) := dk_154 0 6 (dk_at dksX4_drives_1 21 rfl rfl)
theorem dX4_drives_46 : decode cX4_drives 46 = .ok (.bipush (-2), 2) := dk_16 254 (dk_at dksX4_drives_2 0 rfl rfl)
theorem dX4_drives_48 : decode cX4_drives 48 = .ok (.ireturn, 1) := dk_172 (dk_at dksX4_drives_2 2 rfl rfl)
theorem dX4_drives_49 : decode cX4_drives 49 = .ok (.iconst 1, 1) := dk_4 (dk_at dksX4_drives_2 3 rfl rfl)
theorem dX4_drives_50 : decode cX4_drives 50 = .ok (.istore 4, 2) := dk_54 4 (dk_at dksX4_drives_2 4 rfl rfl)
theorem dX4_drives_52 : decode cX4_drives 52 = .ok (.iconst 0, 1) := dk_3 (dk_at dksX4_drives_2 6 rfl rfl)
theorem dX4_drives_53 : decode cX4_drives 53 = .ok (.istore 5, 2) := dk_54 5 (dk_at dksX4_drives_2 7 rfl rfl)
theorem dX4_drives_55 : decode cX4_drives 55 = .ok (.iload 5, 2) := dk_21 5 (dk_at dksX4_drives_2 9 rfl rfl)
theorem dX4_drives_57 : decode cX4_drives 57 = .ok (.iconst 4, 1) := dk_7 (dk_at dksX4_drives_2 11 rfl rfl)
theorem dX4_drives_58 : decode cX4_drives 58 = .ok (.if_icmp .gt 90, 3) := dk_163 0 90 (dk_at dksX4_drives_2 12 rfl rfl)
theorem dX4_drives_61 : decode cX4_drives 61 = .ok (.iconst 0, 1) := dk_3 (dk_at dksX4_drives_2 15 rfl rfl)
theorem dX4_drives_62 : decode cX4_drives 62 = .ok (.istore 6, 2) := dk_54 6 (dk_at dksX4_drives_2 16 rfl rfl)
theorem dX4_drives_64 : decode cX4_drives 64 = .ok (.iload 6, 2) := dk_21 6 (dk_at dksX4_drives_2 18 rfl rfl)
theorem dX4_drives_66 : decode cX4_drives 66 = .ok (.iload 4, 2) := dk_21 4 (dk_at dksX4_drives_2 20 rfl rfl)
theorem dX4_drives_68 : decode cX4_drives 68 = .ok (.if_icmp .ge 65, 3) := dk_162 0 65 (dk_at dksX4_drives_3 0 rfl rfl)
theorem dX4_drives_71 : decode cX4_drives 71 = .ok (.aload_n 0, 1) := dk_42 (dk_at dksX4_drives_3 3 rfl rfl)
theorem dX4_drives_72 : decode cX4_drives 72 = .ok (.iload_n 1, 1) := dk_27 (dk_at dksX4_drives_3 4 rfl rfl)
theorem dX4_drives_73 : decode cX4_drives 73 = .ok (.iload_n 2, 1) := dk_28 (dk_at dksX4_drives_3 5 rfl rfl)
theorem dX4_drives_74 : decode cX4_drives 74 = .ok (.iload_n 3, 1) := dk_29 (dk_at dksX4_drives_3 6 rfl rfl)
theorem dX4_drives_75 : decode cX4_drives 75 = .ok (.iload 5, 2) := dk_21 5 (dk_at dksX4_drives_3 7 rfl rfl)
theorem dX4_drives_77 : decode cX4_drives 77 = .ok (.iload 6, 2) := dk_21 6 (dk_at dksX4_drives_3 9 rfl rfl)
theorem dX4_drives_79 : decode cX4_drives 79 = .ok (.invokevirtual 615, 3) := dk_182 2 103 (dk_at dksX4_drives_3 11 rfl rfl)
theorem dX4_drives_82 : decode cX4_drives 82 = .ok (.ifCond .ne 6, 3) := dk_154 0 6 (dk_at dksX4_drives_3 14 rfl rfl)
theorem dX4_drives_85 : decode cX4_drives 85 = .ok (.goto 42, 3) := dk_167 0 42 (dk_at dksX4_drives_3 17 rfl rfl)
theorem dX4_drives_88 : decode cX4_drives 88 = .ok (.iconst 0, 1) := dk_3 (dk_at dksX4_drives_3 20 rfl rfl)
theorem dX4_drives_89 : decode cX4_drives 89 = .ok (.istore 7, 2) := dk_54 7 (dk_at dksX4_drives_3 21 rfl rfl)
theorem dX4_drives_91 : decode cX4_drives 91 = .ok (.iload 7, 2) := dk_21 7 (dk_at dksX4_drives_4 0 rfl rfl)
theorem dX4_drives_93 : decode cX4_drives 93 = .ok (.iload 5, 2) := dk_21 5 (dk_at dksX4_drives_4 2 rfl rfl)
theorem dX4_drives_95 : decode cX4_drives 95 = .ok (.if_icmp .ge 23, 3) := dk_162 0 23 (dk_at dksX4_drives_4 4 rfl rfl)
theorem dX4_drives_98 : decode cX4_drives 98 = .ok (.aload_n 0, 1) := dk_42 (dk_at dksX4_drives_4 7 rfl rfl)
theorem dX4_drives_99 : decode cX4_drives 99 = .ok (.getfield 157, 3) := dk_180 0 157 (dk_at dksX4_drives_4 8 rfl rfl)
theorem dX4_drives_102 : decode cX4_drives 102 = .ok (.iload 7, 2) := dk_21 7 (dk_at dksX4_drives_4 11 rfl rfl)
theorem dX4_drives_104 : decode cX4_drives 104 = .ok (.aload_n 0, 1) := dk_42 (dk_at dksX4_drives_4 13 rfl rfl)
theorem dX4_drives_105 : decode cX4_drives 105 = .ok (.getfield 154, 3) := dk_180 0 154 (dk_at dksX4_drives_4 14 rfl rfl)
theorem dX4_drives_108 : decode cX4_drives 108 = .ok (.iload 7, 2) := dk_21 7 (dk_at dksX4_drives_4 17 rfl rfl)
theorem dX4_drives_110 : decode cX4_drives 110 = .ok (.iaload, 1) := dk_46 (dk_at dksX4_drives_4 19 rfl rfl)
theorem dX4_drives_111 : decode cX4_drives 111 = .ok (.iastore, 1) := dk_79 (dk_at dksX4_drives_4 20 rfl rfl)
theorem dX4_drives_112 : decode cX4_drives 112 = .ok (.iinc 7 1, 3) := dk_132 7 1 (dk_at dksX4_drives_4 21 rfl rfl)
theorem dX4_drives_115 : decode cX4_drives 115 = .ok (.goto (-24), 3) := dk_167 255 232 (dk_at dksX4_drives_5 0 rfl rfl)
theorem dX4_drives_118 : decode cX4_drives 118 = .ok (.aload_n 0, 1) := dk_42 (dk_at dksX4_drives_5 3 rfl rfl)
theorem dX4_drives_119 : decode cX4_drives 119 = .ok (.iload 5, 2) := dk_21 5 (dk_at dksX4_drives_5 4 rfl rfl)
theorem dX4_drives_121 : decode cX4_drives 121 = .ok (.putfield 491, 3) := dk_181 1 235 (dk_at dksX4_drives_5 6 rfl rfl)
theorem dX4_drives_124 : decode cX4_drives 124 = .ok (.iload 5, 2) := dk_21 5 (dk_at dksX4_drives_5 9 rfl rfl)
theorem dX4_drives_126 : decode cX4_drives 126 = .ok (.ireturn, 1) := dk_172 (dk_at dksX4_drives_5 11 rfl rfl)
theorem dX4_drives_127 : decode cX4_drives 127 = .ok (.iinc 6 1, 3) := dk_132 6 1 (dk_at dksX4_drives_5 12 rfl rfl)
theorem dX4_drives_130 : decode cX4_drives 130 = .ok (.goto (-66), 3) := dk_167 255 190 (dk_at dksX4_drives_5 15 rfl rfl)
theorem dX4_drives_133 : decode cX4_drives 133 = .ok (.iload 4, 2) := dk_21 4 (dk_at dksX4_drives_5 18 rfl rfl)
theorem dX4_drives_135 : decode cX4_drives 135 = .ok (.aload_n 0, 1) := dk_42 (dk_at dksX4_drives_5 20 rfl rfl)
theorem dX4_drives_136 : decode cX4_drives 136 = .ok (.getfield 467, 3) := dk_180 1 211 (dk_at dksX4_drives_5 21 rfl rfl)
theorem dX4_drives_139 : decode cX4_drives 139 = .ok (.imul, 1) := dk_104 (dk_at dksX4_drives_6 0 rfl rfl)
theorem dX4_drives_140 : decode cX4_drives 140 = .ok (.istore 4, 2) := dk_54 4 (dk_at dksX4_drives_6 1 rfl rfl)
theorem dX4_drives_142 : decode cX4_drives 142 = .ok (.iinc 5 1, 3) := dk_132 5 1 (dk_at dksX4_drives_6 3 rfl rfl)
theorem dX4_drives_145 : decode cX4_drives 145 = .ok (.goto (-90), 3) := dk_167 255 166 (dk_at dksX4_drives_6 6 rfl rfl)
theorem dX4_drives_148 : decode cX4_drives 148 = .ok (.iconst (-1), 1) := dk_2 (dk_at dksX4_drives_6 9 rfl rfl)
theorem dX4_drives_149 : decode cX4_drives 149 = .ok (.ireturn, 1) := dk_172 (dk_at dksX4_drives_6 10 rfl rfl)
abbrev cX4_doesDrive : ByteArray := prog_23_method_106_code
def yX4_doesDrive : MethodName := ⟨RX4, "doesDrive", "(IIIII)Z"⟩
def dkwX4_doesDrive_4 : List UInt8 := [167, 255, 215, 42, 28, 29, 3, 182, 2, 36, 172]
abbrev dktX4_doesDrive_4 : List UInt8 := dkwX4_doesDrive_4 ++ []
def dkwX4_doesDrive_3 : List UInt8 := [182, 2, 36, 154, 0, 5, 3, 172, 42, 27, 42, 180, 0, 154, 21, 7, 46, 3, 182, 2, 33, 132, 7, 1]
abbrev dktX4_doesDrive_3 : List UInt8 := dkwX4_doesDrive_3 ++ dktX4_doesDrive_4
def dkwX4_doesDrive_2 : List UInt8 := [167, 255, 225, 3, 54, 7, 21, 7, 21, 4, 162, 0, 40, 42, 27, 42, 180, 0, 154, 21, 7, 46, 3]
abbrev dktX4_doesDrive_2 : List UInt8 := dkwX4_doesDrive_2 ++ dktX4_doesDrive_3
def dkwX4_doesDrive_1 : List UInt8 := [21, 7, 21, 6, 42, 180, 1, 211, 112, 79, 21, 6, 42, 180, 1, 211, 108, 54, 6, 132, 7, 255]
abbrev dktX4_doesDrive_1 : List UInt8 := dkwX4_doesDrive_1 ++ dktX4_doesDrive_2
def dkwX4_doesDrive_0 : List UInt8 := [42, 182, 2, 54, 21, 5, 54, 6, 21, 4, 4, 100, 54, 7, 21, 7, 155, 0, 32, 42, 180, 0, 154]
abbrev dktX4_doesDrive_0 : List UInt8 := dkwX4_doesDrive_0 ++ dktX4_doesDrive_1
theorem dksX4_doesDrive_0 : cX4_doesDrive.data.toList.drop 0 = dktX4_doesDrive_0 := by decide +kernel
theorem dksX4_doesDrive_1 : cX4_doesDrive.data.toList.drop 23 = dktX4_doesDrive_1 := dk_seg dksX4_doesDrive_0 23 rfl rfl
theorem dksX4_doesDrive_2 : cX4_doesDrive.data.toList.drop 45 = dktX4_doesDrive_2 := dk_seg dksX4_doesDrive_1 22 rfl rfl
theorem dksX4_doesDrive_3 : cX4_doesDrive.data.toList.drop 68 = dktX4_doesDrive_3 := dk_seg dksX4_doesDrive_2 23 rfl rfl
theorem dksX4_doesDrive_4 : cX4_doesDrive.data.toList.drop 92 = dktX4_doesDrive_4 := dk_seg dksX4_doesDrive_3 24 rfl rfl
theorem dX4_doesDrive_0 : decode cX4_doesDrive 0 = .ok (.aload_n 0, 1) := dk_42 (dk_at dksX4_doesDrive_0 0 rfl rfl)
theorem dX4_doesDrive_1 : decode cX4_doesDrive 1 = .ok (.invokevirtual 566, 3) := dk_182 2 54 (dk_at dksX4_doesDrive_0 1 rfl rfl)
theorem dX4_doesDrive_4 : decode cX4_doesDrive 4 = .ok (.iload 5, 2) := dk_21 5 (dk_at dksX4_doesDrive_0 4 rfl rfl)
theorem dX4_doesDrive_6 : decode cX4_doesDrive 6 = .ok (.istore 6, 2) := dk_54 6 (dk_at dksX4_doesDrive_0 6 rfl rfl)
theorem dX4_doesDrive_8 : decode cX4_doesDrive 8 = .ok (.iload 4, 2) := dk_21 4 (dk_at dksX4_doesDrive_0 8 rfl rfl)
theorem dX4_doesDrive_10 : decode cX4_doesDrive 10 = .ok (.iconst 1, 1) := dk_4 (dk_at dksX4_doesDrive_0 10 rfl rfl)
theorem dX4_doesDrive_11 : decode cX4_doesDrive 11 = .ok (.isub, 1) := dk_100 (dk_at dksX4_doesDrive_0 11 rfl rfl)
theorem dX4_doesDrive_12 : decode cX4_doesDrive 12 = .ok (.istore 7, 2) := dk_54 7 (dk_at dksX4_doesDrive_0 12 rfl rfl)
theorem dX4_doesDrive_14 : decode cX4_doesDrive 14 = .ok (.iload 7, 2) := dk_21 7 (dk_at dksX4_doesDrive_0 14 rfl rfl)
theorem dX4_doesDrive_16 : decode cX4_doesDrive 16 = .ok (.ifCond .lt 32, 3) := dk_155 0 32 (dk_at dksX4_doesDrive_0 16 rfl rfl)
theorem dX4_doesDrive_19 : decode cX4_doesDrive 19 = .ok (.aload_n 0, 1) := dk_42 (dk_at dksX4_doesDrive_0 19 rfl rfl)
theorem dX4_doesDrive_20 : decode cX4_doesDrive 20 = .ok (.getfield 154, 3) := dk_180 0 154 (dk_at dksX4_doesDrive_0 20 rfl rfl)
theorem dX4_doesDrive_23 : decode cX4_doesDrive 23 = .ok (.iload 7, 2) := dk_21 7 (dk_at dksX4_doesDrive_1 0 rfl rfl)
theorem dX4_doesDrive_25 : decode cX4_doesDrive 25 = .ok (.iload 6, 2) := dk_21 6 (dk_at dksX4_doesDrive_1 2 rfl rfl)
theorem dX4_doesDrive_27 : decode cX4_doesDrive 27 = .ok (.aload_n 0, 1) := dk_42 (dk_at dksX4_doesDrive_1 4 rfl rfl)
theorem dX4_doesDrive_28 : decode cX4_doesDrive 28 = .ok (.getfield 467, 3) := dk_180 1 211 (dk_at dksX4_doesDrive_1 5 rfl rfl)
theorem dX4_doesDrive_31 : decode cX4_doesDrive 31 = .ok (.irem, 1) := dk_112 (dk_at dksX4_doesDrive_1 8 rfl rfl)
theorem dX4_doesDrive_32 : decode cX4_doesDrive 32 = .ok (.iastore, 1) := dk_79 (dk_at dksX4_doesDrive_1 9 rfl rfl)
theorem dX4_doesDrive_33 : decode cX4_doesDrive 33 = .ok (.iload 6, 2) := dk_21 6 (dk_at dksX4_doesDrive_1 10 rfl rfl)
theorem dX4_doesDrive_35 : decode cX4_doesDrive 35 = .ok (.aload_n 0, 1) := dk_42 (dk_at dksX4_doesDrive_1 12 rfl rfl)
theorem dX4_doesDrive_36 : decode cX4_doesDrive 36 = .ok (.getfield 467, 3) := dk_180 1 211 (dk_at dksX4_doesDrive_1 13 rfl rfl)
theorem dX4_doesDrive_39 : decode cX4_doesDrive 39 = .ok (.idiv, 1) := dk_108 (dk_at dksX4_doesDrive_1 16 rfl rfl)
theorem dX4_doesDrive_40 : decode cX4_doesDrive 40 = .ok (.istore 6, 2) := dk_54 6 (dk_at dksX4_doesDrive_1 17 rfl rfl)
theorem dX4_doesDrive_42 : decode cX4_doesDrive 42 = .ok (.iinc 7 (-1), 3) := dk_132 7 255 (dk_at dksX4_doesDrive_1 19 rfl rfl)
theorem dX4_doesDrive_45 : decode cX4_doesDrive 45 = .ok (.goto (-31), 3) := dk_167 255 225 (dk_at dksX4_doesDrive_2 0 rfl rfl)
theorem dX4_doesDrive_48 : decode cX4_doesDrive 48 = .ok (.iconst 0, 1) := dk_3 (dk_at dksX4_doesDrive_2 3 rfl rfl)
theorem dX4_doesDrive_49 : decode cX4_doesDrive 49 = .ok (.istore 7, 2) := dk_54 7 (dk_at dksX4_doesDrive_2 4 rfl rfl)
theorem dX4_doesDrive_51 : decode cX4_doesDrive 51 = .ok (.iload 7, 2) := dk_21 7 (dk_at dksX4_doesDrive_2 6 rfl rfl)
theorem dX4_doesDrive_53 : decode cX4_doesDrive 53 = .ok (.iload 4, 2) := dk_21 4 (dk_at dksX4_doesDrive_2 8 rfl rfl)
theorem dX4_doesDrive_55 : decode cX4_doesDrive 55 = .ok (.if_icmp .ge 40, 3) := dk_162 0 40 (dk_at dksX4_doesDrive_2 10 rfl rfl)
theorem dX4_doesDrive_58 : decode cX4_doesDrive 58 = .ok (.aload_n 0, 1) := dk_42 (dk_at dksX4_doesDrive_2 13 rfl rfl)
theorem dX4_doesDrive_59 : decode cX4_doesDrive 59 = .ok (.iload_n 1, 1) := dk_27 (dk_at dksX4_doesDrive_2 14 rfl rfl)
theorem dX4_doesDrive_60 : decode cX4_doesDrive 60 = .ok (.aload_n 0, 1) := dk_42 (dk_at dksX4_doesDrive_2 15 rfl rfl)
theorem dX4_doesDrive_61 : decode cX4_doesDrive 61 = .ok (.getfield 154, 3) := dk_180 0 154 (dk_at dksX4_doesDrive_2 16 rfl rfl)
theorem dX4_doesDrive_64 : decode cX4_doesDrive 64 = .ok (.iload 7, 2) := dk_21 7 (dk_at dksX4_doesDrive_2 19 rfl rfl)
theorem dX4_doesDrive_66 : decode cX4_doesDrive 66 = .ok (.iaload, 1) := dk_46 (dk_at dksX4_doesDrive_2 21 rfl rfl)
theorem dX4_doesDrive_67 : decode cX4_doesDrive 67 = .ok (.iconst 0, 1) := dk_3 (dk_at dksX4_doesDrive_2 22 rfl rfl)
theorem dX4_doesDrive_68 : decode cX4_doesDrive 68 = .ok (.invokevirtual 548, 3) := dk_182 2 36 (dk_at dksX4_doesDrive_3 0 rfl rfl)
theorem dX4_doesDrive_71 : decode cX4_doesDrive 71 = .ok (.ifCond .ne 5, 3) := dk_154 0 5 (dk_at dksX4_doesDrive_3 3 rfl rfl)
theorem dX4_doesDrive_74 : decode cX4_doesDrive 74 = .ok (.iconst 0, 1) := dk_3 (dk_at dksX4_doesDrive_3 6 rfl rfl)
theorem dX4_doesDrive_75 : decode cX4_doesDrive 75 = .ok (.ireturn, 1) := dk_172 (dk_at dksX4_doesDrive_3 7 rfl rfl)
theorem dX4_doesDrive_76 : decode cX4_doesDrive 76 = .ok (.aload_n 0, 1) := dk_42 (dk_at dksX4_doesDrive_3 8 rfl rfl)
theorem dX4_doesDrive_77 : decode cX4_doesDrive 77 = .ok (.iload_n 1, 1) := dk_27 (dk_at dksX4_doesDrive_3 9 rfl rfl)
theorem dX4_doesDrive_78 : decode cX4_doesDrive 78 = .ok (.aload_n 0, 1) := dk_42 (dk_at dksX4_doesDrive_3 10 rfl rfl)
theorem dX4_doesDrive_79 : decode cX4_doesDrive 79 = .ok (.getfield 154, 3) := dk_180 0 154 (dk_at dksX4_doesDrive_3 11 rfl rfl)
theorem dX4_doesDrive_82 : decode cX4_doesDrive 82 = .ok (.iload 7, 2) := dk_21 7 (dk_at dksX4_doesDrive_3 14 rfl rfl)
theorem dX4_doesDrive_84 : decode cX4_doesDrive 84 = .ok (.iaload, 1) := dk_46 (dk_at dksX4_doesDrive_3 16 rfl rfl)
theorem dX4_doesDrive_85 : decode cX4_doesDrive 85 = .ok (.iconst 0, 1) := dk_3 (dk_at dksX4_doesDrive_3 17 rfl rfl)
theorem dX4_doesDrive_86 : decode cX4_doesDrive 86 = .ok (.invokevirtual 545, 3) := dk_182 2 33 (dk_at dksX4_doesDrive_3 18 rfl rfl)
theorem dX4_doesDrive_89 : decode cX4_doesDrive 89 = .ok (.iinc 7 1, 3) := dk_132 7 1 (dk_at dksX4_doesDrive_3 21 rfl rfl)
theorem dX4_doesDrive_92 : decode cX4_doesDrive 92 = .ok (.goto (-41), 3) := dk_167 255 215 (dk_at dksX4_doesDrive_4 0 rfl rfl)
theorem dX4_doesDrive_95 : decode cX4_doesDrive 95 = .ok (.aload_n 0, 1) := dk_42 (dk_at dksX4_doesDrive_4 3 rfl rfl)
theorem dX4_doesDrive_96 : decode cX4_doesDrive 96 = .ok (.iload_n 2, 1) := dk_28 (dk_at dksX4_doesDrive_4 4 rfl rfl)
theorem dX4_doesDrive_97 : decode cX4_doesDrive 97 = .ok (.iload_n 3, 1) := dk_29 (dk_at dksX4_doesDrive_4 5 rfl rfl)
theorem dX4_doesDrive_98 : decode cX4_doesDrive 98 = .ok (.iconst 0, 1) := dk_3 (dk_at dksX4_doesDrive_4 6 rfl rfl)
theorem dX4_doesDrive_99 : decode cX4_doesDrive 99 = .ok (.invokevirtual 548, 3) := dk_182 2 36 (dk_at dksX4_doesDrive_4 7 rfl rfl)
theorem dX4_doesDrive_102 : decode cX4_doesDrive 102 = .ok (.ireturn, 1) := dk_172 (dk_at dksX4_doesDrive_4 10 rfl rfl)
abbrev cX4_gone : ByteArray := prog_23_method_110_code
def yX4_gone : MethodName := ⟨RX4, "gone", "(I)I"⟩
def dkwX4_gone_1 : List UInt8 := [182, 2, 113, 172]
abbrev dktX4_gone_1 : List UInt8 := dkwX4_gone_1 ++ []
def dkwX4_gone_0 : List UInt8 := [27, 155, 0, 14, 27, 42, 182, 2, 110, 2, 130, 126, 153, 0, 8, 16, 254, 167, 0, 8, 42, 27]
abbrev dktX4_gone_0 : List UInt8 := dkwX4_gone_0 ++ dktX4_gone_1
theorem dksX4_gone_0 : cX4_gone.data.toList.drop 0 = dktX4_gone_0 := by decide +kernel
theorem dksX4_gone_1 : cX4_gone.data.toList.drop 22 = dktX4_gone_1 := dk_seg dksX4_gone_0 22 rfl rfl
theorem dX4_gone_0 : decode cX4_gone 0 = .ok (.iload_n 1, 1) := dk_27 (dk_at dksX4_gone_0 0 rfl rfl)
theorem dX4_gone_1 : decode cX4_gone 1 = .ok (.ifCond .lt 14, 3) := dk_155 0 14 (dk_at dksX4_gone_0 1 rfl rfl)
theorem dX4_gone_4 : decode cX4_gone 4 = .ok (.iload_n 1, 1) := dk_27 (dk_at dksX4_gone_0 4 rfl rfl)
theorem dX4_gone_5 : decode cX4_gone 5 = .ok (.aload_n 0, 1) := dk_42 (dk_at dksX4_gone_0 5 rfl rfl)
theorem dX4_gone_6 : decode cX4_gone 6 = .ok (.invokevirtual 622, 3) := dk_182 2 110 (dk_at dksX4_gone_0 6 rfl rfl)
theorem dX4_gone_9 : decode cX4_gone 9 = .ok (.iconst (-1), 1) := dk_2 (dk_at dksX4_gone_0 9 rfl rfl)
theorem dX4_gone_10 : decode cX4_gone 10 = .ok (.ixor, 1) := dk_130 (dk_at dksX4_gone_0 10 rfl rfl)
theorem dX4_gone_11 : decode cX4_gone 11 = .ok (.iand, 1) := dk_126 (dk_at dksX4_gone_0 11 rfl rfl)
theorem dX4_gone_12 : decode cX4_gone 12 = .ok (.ifCond .eq 8, 3) := dk_153 0 8 (dk_at dksX4_gone_0 12 rfl rfl)
theorem dX4_gone_15 : decode cX4_gone 15 = .ok (.bipush (-2), 2) := dk_16 254 (dk_at dksX4_gone_0 15 rfl rfl)
theorem dX4_gone_17 : decode cX4_gone 17 = .ok (.goto 8, 3) := dk_167 0 8 (dk_at dksX4_gone_0 17 rfl rfl)
theorem dX4_gone_20 : decode cX4_gone 20 = .ok (.aload_n 0, 1) := dk_42 (dk_at dksX4_gone_0 20 rfl rfl)
theorem dX4_gone_21 : decode cX4_gone 21 = .ok (.iload_n 1, 1) := dk_27 (dk_at dksX4_gone_0 21 rfl rfl)
theorem dX4_gone_22 : decode cX4_gone 22 = .ok (.invokevirtual 625, 3) := dk_182 2 113 (dk_at dksX4_gone_1 0 rfl rfl)
theorem dX4_gone_25 : decode cX4_gone 25 = .ok (.ireturn, 1) := dk_172 (dk_at dksX4_gone_1 3 rfl rfl)
abbrev cX4_afloatSet : ByteArray := prog_23_method_109_code
def yX4_afloatSet : MethodName := ⟨RX4, "afloatSet", "()I"⟩
def dkwX4_afloatSet_1 : List UInt8 := [153, 0, 9, 4, 28, 120, 167, 0, 4, 3, 128, 60, 132, 2, 1, 167, 255, 227, 27, 172]
abbrev dktX4_afloatSet_1 : List UInt8 := dkwX4_afloatSet_1 ++ []
def dkwX4_afloatSet_0 : List UInt8 := [42, 182, 2, 54, 3, 60, 3, 61, 28, 42, 180, 1, 211, 162, 0, 27, 27, 42, 28, 182, 1, 245]
abbrev dktX4_afloatSet_0 : List UInt8 := dkwX4_afloatSet_0 ++ dktX4_afloatSet_1
theorem dksX4_afloatSet_0 : cX4_afloatSet.data.toList.drop 0 = dktX4_afloatSet_0 := by decide +kernel
theorem dksX4_afloatSet_1 : cX4_afloatSet.data.toList.drop 22 = dktX4_afloatSet_1 := dk_seg dksX4_afloatSet_0 22 rfl rfl
theorem dX4_afloatSet_0 : decode cX4_afloatSet 0 = .ok (.aload_n 0, 1) := dk_42 (dk_at dksX4_afloatSet_0 0 rfl rfl)
theorem dX4_afloatSet_1 : decode cX4_afloatSet 1 = .ok (.invokevirtual 566, 3) := dk_182 2 54 (dk_at dksX4_afloatSet_0 1 rfl rfl)
theorem dX4_afloatSet_4 : decode cX4_afloatSet 4 = .ok (.iconst 0, 1) := dk_3 (dk_at dksX4_afloatSet_0 4 rfl rfl)
theorem dX4_afloatSet_5 : decode cX4_afloatSet 5 = .ok (.istore_n 1, 1) := dk_60 (dk_at dksX4_afloatSet_0 5 rfl rfl)
theorem dX4_afloatSet_6 : decode cX4_afloatSet 6 = .ok (.iconst 0, 1) := dk_3 (dk_at dksX4_afloatSet_0 6 rfl rfl)
theorem dX4_afloatSet_7 : decode cX4_afloatSet 7 = .ok (.istore_n 2, 1) := dk_61 (dk_at dksX4_afloatSet_0 7 rfl rfl)
theorem dX4_afloatSet_8 : decode cX4_afloatSet 8 = .ok (.iload_n 2, 1) := dk_28 (dk_at dksX4_afloatSet_0 8 rfl rfl)
theorem dX4_afloatSet_9 : decode cX4_afloatSet 9 = .ok (.aload_n 0, 1) := dk_42 (dk_at dksX4_afloatSet_0 9 rfl rfl)
theorem dX4_afloatSet_10 : decode cX4_afloatSet 10 = .ok (.getfield 467, 3) := dk_180 1 211 (dk_at dksX4_afloatSet_0 10 rfl rfl)
theorem dX4_afloatSet_13 : decode cX4_afloatSet 13 = .ok (.if_icmp .ge 27, 3) := dk_162 0 27 (dk_at dksX4_afloatSet_0 13 rfl rfl)
theorem dX4_afloatSet_16 : decode cX4_afloatSet 16 = .ok (.iload_n 1, 1) := dk_27 (dk_at dksX4_afloatSet_0 16 rfl rfl)
theorem dX4_afloatSet_17 : decode cX4_afloatSet 17 = .ok (.aload_n 0, 1) := dk_42 (dk_at dksX4_afloatSet_0 17 rfl rfl)
theorem dX4_afloatSet_18 : decode cX4_afloatSet 18 = .ok (.iload_n 2, 1) := dk_28 (dk_at dksX4_afloatSet_0 18 rfl rfl)
theorem dX4_afloatSet_19 : decode cX4_afloatSet 19 = .ok (.invokevirtual 501, 3) := dk_182 1 245 (dk_at dksX4_afloatSet_0 19 rfl rfl)
theorem dX4_afloatSet_22 : decode cX4_afloatSet 22 = .ok (.ifCond .eq 9, 3) := dk_153 0 9 (dk_at dksX4_afloatSet_1 0 rfl rfl)
theorem dX4_afloatSet_25 : decode cX4_afloatSet 25 = .ok (.iconst 1, 1) := dk_4 (dk_at dksX4_afloatSet_1 3 rfl rfl)
theorem dX4_afloatSet_26 : decode cX4_afloatSet 26 = .ok (.iload_n 2, 1) := dk_28 (dk_at dksX4_afloatSet_1 4 rfl rfl)
theorem dX4_afloatSet_27 : decode cX4_afloatSet 27 = .ok (.ishl, 1) := dk_120 (dk_at dksX4_afloatSet_1 5 rfl rfl)
theorem dX4_afloatSet_28 : decode cX4_afloatSet 28 = .ok (.goto 4, 3) := dk_167 0 4 (dk_at dksX4_afloatSet_1 6 rfl rfl)
theorem dX4_afloatSet_31 : decode cX4_afloatSet 31 = .ok (.iconst 0, 1) := dk_3 (dk_at dksX4_afloatSet_1 9 rfl rfl)
theorem dX4_afloatSet_32 : decode cX4_afloatSet 32 = .ok (.ior, 1) := dk_128 (dk_at dksX4_afloatSet_1 10 rfl rfl)
theorem dX4_afloatSet_33 : decode cX4_afloatSet 33 = .ok (.istore_n 1, 1) := dk_60 (dk_at dksX4_afloatSet_1 11 rfl rfl)
theorem dX4_afloatSet_34 : decode cX4_afloatSet 34 = .ok (.iinc 2 1, 3) := dk_132 2 1 (dk_at dksX4_afloatSet_1 12 rfl rfl)
theorem dX4_afloatSet_37 : decode cX4_afloatSet 37 = .ok (.goto (-29), 3) := dk_167 255 227 (dk_at dksX4_afloatSet_1 15 rfl rfl)
theorem dX4_afloatSet_40 : decode cX4_afloatSet 40 = .ok (.iload_n 1, 1) := dk_27 (dk_at dksX4_afloatSet_1 18 rfl rfl)
theorem dX4_afloatSet_41 : decode cX4_afloatSet 41 = .ok (.ireturn, 1) := dk_172 (dk_at dksX4_afloatSet_1 19 rfl rfl)
abbrev cX4_goneOf : ByteArray := prog_23_method_108_code
def yX4_goneOf : MethodName := ⟨RX4, "goneOf", "(I)I"⟩
def dkwX4_goneOf_4 : List UInt8 := [182, 2, 107, 154, 0, 5, 28, 172, 132, 2, 1, 167, 255, 210, 2, 172]
abbrev dktX4_goneOf_4 : List UInt8 := dkwX4_goneOf_4 ++ []
def dkwX4_goneOf_3 : List UInt8 := [162, 0, 21, 42, 29, 42, 180, 0, 112, 29, 46, 182, 2, 72, 87, 132, 3, 1, 167, 255, 233, 42]
abbrev dktX4_goneOf_3 : List UInt8 := dkwX4_goneOf_3 ++ dktX4_goneOf_4
def dkwX4_goneOf_2 : List UInt8 := [42, 182, 2, 107, 154, 0, 5, 3, 172, 4, 61, 28, 16, 60, 163, 0, 46, 3, 62, 29, 42, 180, 1, 214]
abbrev dktX4_goneOf_2 : List UInt8 := dkwX4_goneOf_2 ++ dktX4_goneOf_3
def dkwX4_goneOf_1 : List UInt8 := [182, 1, 245, 153, 0, 15, 42, 180, 0, 121, 8, 28, 104, 5, 96, 16, 8, 79, 132, 2, 1, 167, 255, 217]
abbrev dktX4_goneOf_1 : List UInt8 := dkwX4_goneOf_1 ++ dktX4_goneOf_2
def dkwX4_goneOf_0 : List UInt8 := [42, 182, 2, 54, 3, 61, 28, 42, 180, 1, 211, 162, 0, 37, 27, 28, 122, 4, 126, 154, 0, 23, 42, 28]
abbrev dktX4_goneOf_0 : List UInt8 := dkwX4_goneOf_0 ++ dktX4_goneOf_1
theorem dksX4_goneOf_0 : cX4_goneOf.data.toList.drop 0 = dktX4_goneOf_0 := by decide +kernel
theorem dksX4_goneOf_1 : cX4_goneOf.data.toList.drop 24 = dktX4_goneOf_1 := dk_seg dksX4_goneOf_0 24 rfl rfl
theorem dksX4_goneOf_2 : cX4_goneOf.data.toList.drop 48 = dktX4_goneOf_2 := dk_seg dksX4_goneOf_1 24 rfl rfl
theorem dksX4_goneOf_3 : cX4_goneOf.data.toList.drop 72 = dktX4_goneOf_3 := dk_seg dksX4_goneOf_2 24 rfl rfl
theorem dksX4_goneOf_4 : cX4_goneOf.data.toList.drop 94 = dktX4_goneOf_4 := dk_seg dksX4_goneOf_3 22 rfl rfl
theorem dX4_goneOf_0 : decode cX4_goneOf 0 = .ok (.aload_n 0, 1) := dk_42 (dk_at dksX4_goneOf_0 0 rfl rfl)
theorem dX4_goneOf_1 : decode cX4_goneOf 1 = .ok (.invokevirtual 566, 3) := dk_182 2 54 (dk_at dksX4_goneOf_0 1 rfl rfl)
theorem dX4_goneOf_4 : decode cX4_goneOf 4 = .ok (.iconst 0, 1) := dk_3 (dk_at dksX4_goneOf_0 4 rfl rfl)
theorem dX4_goneOf_5 : decode cX4_goneOf 5 = .ok (.istore_n 2, 1) := dk_61 (dk_at dksX4_goneOf_0 5 rfl rfl)
theorem dX4_goneOf_6 : decode cX4_goneOf 6 = .ok (.iload_n 2, 1) := dk_28 (dk_at dksX4_goneOf_0 6 rfl rfl)
theorem dX4_goneOf_7 : decode cX4_goneOf 7 = .ok (.aload_n 0, 1) := dk_42 (dk_at dksX4_goneOf_0 7 rfl rfl)
theorem dX4_goneOf_8 : decode cX4_goneOf 8 = .ok (.getfield 467, 3) := dk_180 1 211 (dk_at dksX4_goneOf_0 8 rfl rfl)
theorem dX4_goneOf_11 : decode cX4_goneOf 11 = .ok (.if_icmp .ge 37, 3) := dk_162 0 37 (dk_at dksX4_goneOf_0 11 rfl rfl)
theorem dX4_goneOf_14 : decode cX4_goneOf 14 = .ok (.iload_n 1, 1) := dk_27 (dk_at dksX4_goneOf_0 14 rfl rfl)
theorem dX4_goneOf_15 : decode cX4_goneOf 15 = .ok (.iload_n 2, 1) := dk_28 (dk_at dksX4_goneOf_0 15 rfl rfl)
theorem dX4_goneOf_16 : decode cX4_goneOf 16 = .ok (.ishr, 1) := dk_122 (dk_at dksX4_goneOf_0 16 rfl rfl)
theorem dX4_goneOf_17 : decode cX4_goneOf 17 = .ok (.iconst 1, 1) := dk_4 (dk_at dksX4_goneOf_0 17 rfl rfl)
theorem dX4_goneOf_18 : decode cX4_goneOf 18 = .ok (.iand, 1) := dk_126 (dk_at dksX4_goneOf_0 18 rfl rfl)
theorem dX4_goneOf_19 : decode cX4_goneOf 19 = .ok (.ifCond .ne 23, 3) := dk_154 0 23 (dk_at dksX4_goneOf_0 19 rfl rfl)
theorem dX4_goneOf_22 : decode cX4_goneOf 22 = .ok (.aload_n 0, 1) := dk_42 (dk_at dksX4_goneOf_0 22 rfl rfl)
theorem dX4_goneOf_23 : decode cX4_goneOf 23 = .ok (.iload_n 2, 1) := dk_28 (dk_at dksX4_goneOf_0 23 rfl rfl)
theorem dX4_goneOf_24 : decode cX4_goneOf 24 = .ok (.invokevirtual 501, 3) := dk_182 1 245 (dk_at dksX4_goneOf_1 0 rfl rfl)
theorem dX4_goneOf_27 : decode cX4_goneOf 27 = .ok (.ifCond .eq 15, 3) := dk_153 0 15 (dk_at dksX4_goneOf_1 3 rfl rfl)
theorem dX4_goneOf_30 : decode cX4_goneOf 30 = .ok (.aload_n 0, 1) := dk_42 (dk_at dksX4_goneOf_1 6 rfl rfl)
theorem dX4_goneOf_31 : decode cX4_goneOf 31 = .ok (.getfield 121, 3) := dk_180 0 121 (dk_at dksX4_goneOf_1 7 rfl rfl)
theorem dX4_goneOf_34 : decode cX4_goneOf 34 = .ok (.iconst 5, 1) := dk_8 (dk_at dksX4_goneOf_1 10 rfl rfl)
theorem dX4_goneOf_35 : decode cX4_goneOf 35 = .ok (.iload_n 2, 1) := dk_28 (dk_at dksX4_goneOf_1 11 rfl rfl)
theorem dX4_goneOf_36 : decode cX4_goneOf 36 = .ok (.imul, 1) := dk_104 (dk_at dksX4_goneOf_1 12 rfl rfl)
theorem dX4_goneOf_37 : decode cX4_goneOf 37 = .ok (.iconst 2, 1) := dk_5 (dk_at dksX4_goneOf_1 13 rfl rfl)
theorem dX4_goneOf_38 : decode cX4_goneOf 38 = .ok (.iadd, 1) := dk_96 (dk_at dksX4_goneOf_1 14 rfl rfl)
theorem dX4_goneOf_39 : decode cX4_goneOf 39 = .ok (.bipush 8, 2) := dk_16 8 (dk_at dksX4_goneOf_1 15 rfl rfl)
theorem dX4_goneOf_41 : decode cX4_goneOf 41 = .ok (.iastore, 1) := dk_79 (dk_at dksX4_goneOf_1 17 rfl rfl)
theorem dX4_goneOf_42 : decode cX4_goneOf 42 = .ok (.iinc 2 1, 3) := dk_132 2 1 (dk_at dksX4_goneOf_1 18 rfl rfl)
theorem dX4_goneOf_45 : decode cX4_goneOf 45 = .ok (.goto (-39), 3) := dk_167 255 217 (dk_at dksX4_goneOf_1 21 rfl rfl)
theorem dX4_goneOf_48 : decode cX4_goneOf 48 = .ok (.aload_n 0, 1) := dk_42 (dk_at dksX4_goneOf_2 0 rfl rfl)
theorem dX4_goneOf_49 : decode cX4_goneOf 49 = .ok (.invokevirtual 619, 3) := dk_182 2 107 (dk_at dksX4_goneOf_2 1 rfl rfl)
theorem dX4_goneOf_52 : decode cX4_goneOf 52 = .ok (.ifCond .ne 5, 3) := dk_154 0 5 (dk_at dksX4_goneOf_2 4 rfl rfl)
theorem dX4_goneOf_55 : decode cX4_goneOf 55 = .ok (.iconst 0, 1) := dk_3 (dk_at dksX4_goneOf_2 7 rfl rfl)
theorem dX4_goneOf_56 : decode cX4_goneOf 56 = .ok (.ireturn, 1) := dk_172 (dk_at dksX4_goneOf_2 8 rfl rfl)
theorem dX4_goneOf_57 : decode cX4_goneOf 57 = .ok (.iconst 1, 1) := dk_4 (dk_at dksX4_goneOf_2 9 rfl rfl)
theorem dX4_goneOf_58 : decode cX4_goneOf 58 = .ok (.istore_n 2, 1) := dk_61 (dk_at dksX4_goneOf_2 10 rfl rfl)
theorem dX4_goneOf_59 : decode cX4_goneOf 59 = .ok (.iload_n 2, 1) := dk_28 (dk_at dksX4_goneOf_2 11 rfl rfl)
theorem dX4_goneOf_60 : decode cX4_goneOf 60 = .ok (.bipush 60, 2) := dk_16 60 (dk_at dksX4_goneOf_2 12 rfl rfl)
theorem dX4_goneOf_62 : decode cX4_goneOf 62 = .ok (.if_icmp .gt 46, 3) := dk_163 0 46 (dk_at dksX4_goneOf_2 14 rfl rfl)
theorem dX4_goneOf_65 : decode cX4_goneOf 65 = .ok (.iconst 0, 1) := dk_3 (dk_at dksX4_goneOf_2 17 rfl rfl)
theorem dX4_goneOf_66 : decode cX4_goneOf 66 = .ok (.istore_n 3, 1) := dk_62 (dk_at dksX4_goneOf_2 18 rfl rfl)
theorem dX4_goneOf_67 : decode cX4_goneOf 67 = .ok (.iload_n 3, 1) := dk_29 (dk_at dksX4_goneOf_2 19 rfl rfl)
theorem dX4_goneOf_68 : decode cX4_goneOf 68 = .ok (.aload_n 0, 1) := dk_42 (dk_at dksX4_goneOf_2 20 rfl rfl)
theorem dX4_goneOf_69 : decode cX4_goneOf 69 = .ok (.getfield 470, 3) := dk_180 1 214 (dk_at dksX4_goneOf_2 21 rfl rfl)
theorem dX4_goneOf_72 : decode cX4_goneOf 72 = .ok (.if_icmp .ge 21, 3) := dk_162 0 21 (dk_at dksX4_goneOf_3 0 rfl rfl)
theorem dX4_goneOf_75 : decode cX4_goneOf 75 = .ok (.aload_n 0, 1) := dk_42 (dk_at dksX4_goneOf_3 3 rfl rfl)
theorem dX4_goneOf_76 : decode cX4_goneOf 76 = .ok (.iload_n 3, 1) := dk_29 (dk_at dksX4_goneOf_3 4 rfl rfl)
theorem dX4_goneOf_77 : decode cX4_goneOf 77 = .ok (.aload_n 0, 1) := dk_42 (dk_at dksX4_goneOf_3 5 rfl rfl)
theorem dX4_goneOf_78 : decode cX4_goneOf 78 = .ok (.getfield 112, 3) := dk_180 0 112 (dk_at dksX4_goneOf_3 6 rfl rfl)
theorem dX4_goneOf_81 : decode cX4_goneOf 81 = .ok (.iload_n 3, 1) := dk_29 (dk_at dksX4_goneOf_3 9 rfl rfl)
theorem dX4_goneOf_82 : decode cX4_goneOf 82 = .ok (.iaload, 1) := dk_46 (dk_at dksX4_goneOf_3 10 rfl rfl)
theorem dX4_goneOf_83 : decode cX4_goneOf 83 = .ok (.invokevirtual 584, 3) := dk_182 2 72 (dk_at dksX4_goneOf_3 11 rfl rfl)
theorem dX4_goneOf_86 : decode cX4_goneOf 86 = .ok (.pop, 1) := dk_87 (dk_at dksX4_goneOf_3 14 rfl rfl)
theorem dX4_goneOf_87 : decode cX4_goneOf 87 = .ok (.iinc 3 1, 3) := dk_132 3 1 (dk_at dksX4_goneOf_3 15 rfl rfl)
theorem dX4_goneOf_90 : decode cX4_goneOf 90 = .ok (.goto (-23), 3) := dk_167 255 233 (dk_at dksX4_goneOf_3 18 rfl rfl)
theorem dX4_goneOf_93 : decode cX4_goneOf 93 = .ok (.aload_n 0, 1) := dk_42 (dk_at dksX4_goneOf_3 21 rfl rfl)
theorem dX4_goneOf_94 : decode cX4_goneOf 94 = .ok (.invokevirtual 619, 3) := dk_182 2 107 (dk_at dksX4_goneOf_4 0 rfl rfl)
theorem dX4_goneOf_97 : decode cX4_goneOf 97 = .ok (.ifCond .ne 5, 3) := dk_154 0 5 (dk_at dksX4_goneOf_4 3 rfl rfl)
theorem dX4_goneOf_100 : decode cX4_goneOf 100 = .ok (.iload_n 2, 1) := dk_28 (dk_at dksX4_goneOf_4 6 rfl rfl)
theorem dX4_goneOf_101 : decode cX4_goneOf 101 = .ok (.ireturn, 1) := dk_172 (dk_at dksX4_goneOf_4 7 rfl rfl)
theorem dX4_goneOf_102 : decode cX4_goneOf 102 = .ok (.iinc 2 1, 3) := dk_132 2 1 (dk_at dksX4_goneOf_4 8 rfl rfl)
theorem dX4_goneOf_105 : decode cX4_goneOf 105 = .ok (.goto (-46), 3) := dk_167 255 210 (dk_at dksX4_goneOf_4 11 rfl rfl)
theorem dX4_goneOf_108 : decode cX4_goneOf 108 = .ok (.iconst (-1), 1) := dk_2 (dk_at dksX4_goneOf_4 14 rfl rfl)
theorem dX4_goneOf_109 : decode cX4_goneOf 109 = .ok (.ireturn, 1) := dk_172 (dk_at dksX4_goneOf_4 15 rfl rfl)
abbrev cX4_afloatAll : ByteArray := prog_23_method_77_code
def yX4_afloatAll : MethodName := ⟨RX4, "afloatAll", "()I"⟩
def dkwX4_afloatAll_1 : List UInt8 := [167, 0, 4, 3, 96, 60, 132, 2, 1, 167, 255, 229, 27, 172]
abbrev dktX4_afloatAll_1 : List UInt8 := dkwX4_afloatAll_1 ++ []
def dkwX4_afloatAll_0 : List UInt8 := [3, 60, 3, 61, 28, 42, 180, 1, 211, 162, 0, 25, 27, 42, 28, 182, 1, 245, 153, 0, 7, 4]
abbrev dktX4_afloatAll_0 : List UInt8 := dkwX4_afloatAll_0 ++ dktX4_afloatAll_1
theorem dksX4_afloatAll_0 : cX4_afloatAll.data.toList.drop 0 = dktX4_afloatAll_0 := by decide +kernel
theorem dksX4_afloatAll_1 : cX4_afloatAll.data.toList.drop 22 = dktX4_afloatAll_1 := dk_seg dksX4_afloatAll_0 22 rfl rfl
theorem dX4_afloatAll_0 : decode cX4_afloatAll 0 = .ok (.iconst 0, 1) := dk_3 (dk_at dksX4_afloatAll_0 0 rfl rfl)
theorem dX4_afloatAll_1 : decode cX4_afloatAll 1 = .ok (.istore_n 1, 1) := dk_60 (dk_at dksX4_afloatAll_0 1 rfl rfl)
theorem dX4_afloatAll_2 : decode cX4_afloatAll 2 = .ok (.iconst 0, 1) := dk_3 (dk_at dksX4_afloatAll_0 2 rfl rfl)
theorem dX4_afloatAll_3 : decode cX4_afloatAll 3 = .ok (.istore_n 2, 1) := dk_61 (dk_at dksX4_afloatAll_0 3 rfl rfl)
theorem dX4_afloatAll_4 : decode cX4_afloatAll 4 = .ok (.iload_n 2, 1) := dk_28 (dk_at dksX4_afloatAll_0 4 rfl rfl)
theorem dX4_afloatAll_5 : decode cX4_afloatAll 5 = .ok (.aload_n 0, 1) := dk_42 (dk_at dksX4_afloatAll_0 5 rfl rfl)
theorem dX4_afloatAll_6 : decode cX4_afloatAll 6 = .ok (.getfield 467, 3) := dk_180 1 211 (dk_at dksX4_afloatAll_0 6 rfl rfl)
theorem dX4_afloatAll_9 : decode cX4_afloatAll 9 = .ok (.if_icmp .ge 25, 3) := dk_162 0 25 (dk_at dksX4_afloatAll_0 9 rfl rfl)
theorem dX4_afloatAll_12 : decode cX4_afloatAll 12 = .ok (.iload_n 1, 1) := dk_27 (dk_at dksX4_afloatAll_0 12 rfl rfl)
theorem dX4_afloatAll_13 : decode cX4_afloatAll 13 = .ok (.aload_n 0, 1) := dk_42 (dk_at dksX4_afloatAll_0 13 rfl rfl)
theorem dX4_afloatAll_14 : decode cX4_afloatAll 14 = .ok (.iload_n 2, 1) := dk_28 (dk_at dksX4_afloatAll_0 14 rfl rfl)
theorem dX4_afloatAll_15 : decode cX4_afloatAll 15 = .ok (.invokevirtual 501, 3) := dk_182 1 245 (dk_at dksX4_afloatAll_0 15 rfl rfl)
theorem dX4_afloatAll_18 : decode cX4_afloatAll 18 = .ok (.ifCond .eq 7, 3) := dk_153 0 7 (dk_at dksX4_afloatAll_0 18 rfl rfl)
theorem dX4_afloatAll_21 : decode cX4_afloatAll 21 = .ok (.iconst 1, 1) := dk_4 (dk_at dksX4_afloatAll_0 21 rfl rfl)
theorem dX4_afloatAll_22 : decode cX4_afloatAll 22 = .ok (.goto 4, 3) := dk_167 0 4 (dk_at dksX4_afloatAll_1 0 rfl rfl)
theorem dX4_afloatAll_25 : decode cX4_afloatAll 25 = .ok (.iconst 0, 1) := dk_3 (dk_at dksX4_afloatAll_1 3 rfl rfl)
theorem dX4_afloatAll_26 : decode cX4_afloatAll 26 = .ok (.iadd, 1) := dk_96 (dk_at dksX4_afloatAll_1 4 rfl rfl)
theorem dX4_afloatAll_27 : decode cX4_afloatAll 27 = .ok (.istore_n 1, 1) := dk_60 (dk_at dksX4_afloatAll_1 5 rfl rfl)
theorem dX4_afloatAll_28 : decode cX4_afloatAll 28 = .ok (.iinc 2 1, 3) := dk_132 2 1 (dk_at dksX4_afloatAll_1 6 rfl rfl)
theorem dX4_afloatAll_31 : decode cX4_afloatAll 31 = .ok (.goto (-27), 3) := dk_167 255 229 (dk_at dksX4_afloatAll_1 9 rfl rfl)
theorem dX4_afloatAll_34 : decode cX4_afloatAll 34 = .ok (.iload_n 1, 1) := dk_27 (dk_at dksX4_afloatAll_1 12 rfl rfl)
theorem dX4_afloatAll_35 : decode cX4_afloatAll 35 = .ok (.ireturn, 1) := dk_172 (dk_at dksX4_afloatAll_1 13 rfl rfl)
abbrev cX4_provide : ByteArray := prog_23_method_112_code
def yX4_provide : MethodName := ⟨RX4, "provide", "(II)I"⟩
def dkwX4_provide_5 : List UInt8 := [184, 2, 116, 167, 0, 5, 21, 4, 172]
abbrev dktX4_provide_5 : List UInt8 := dkwX4_provide_5 ++ []
def dkwX4_provide_4 : List UInt8 := [54, 4, 132, 5, 1, 167, 255, 189, 21, 4, 156, 0, 7, 2, 167, 0, 17, 28, 154, 0, 11, 21, 4]
abbrev dktX4_provide_4 : List UInt8 := dkwX4_provide_4 ++ dktX4_provide_5
def dkwX4_provide_3 : List UInt8 := [167, 0, 26, 42, 21, 5, 182, 2, 113, 54, 6, 21, 6, 155, 0, 9, 21, 6, 27, 164, 0, 7, 21, 5]
abbrev dktX4_provide_3 : List UInt8 := dkwX4_provide_3 ++ dktX4_provide_4
def dkwX4_provide_2 : List UInt8 := [2, 130, 126, 154, 0, 47, 21, 4, 155, 0, 19, 21, 5, 184, 2, 116, 21, 4, 184, 2, 116, 161, 0, 6]
abbrev dktX4_provide_2 : List UInt8 := dkwX4_provide_2 ++ dktX4_provide_3
def dkwX4_provide_1 : List UInt8 := [182, 2, 110, 62, 2, 54, 4, 4, 54, 5, 21, 5, 4, 42, 180, 1, 211, 120, 162, 0, 62, 21, 5, 29]
abbrev dktX4_provide_1 : List UInt8 := dkwX4_provide_1 ++ dktX4_provide_2
def dkwX4_provide_0 : List UInt8 := [27, 4, 16, 60, 184, 1, 238, 153, 0, 12, 28, 3, 4, 184, 1, 238, 154, 0, 5, 2, 172, 42]
abbrev dktX4_provide_0 : List UInt8 := dkwX4_provide_0 ++ dktX4_provide_1
theorem dksX4_provide_0 : cX4_provide.data.toList.drop 0 = dktX4_provide_0 := by decide +kernel
theorem dksX4_provide_1 : cX4_provide.data.toList.drop 22 = dktX4_provide_1 := dk_seg dksX4_provide_0 22 rfl rfl
theorem dksX4_provide_2 : cX4_provide.data.toList.drop 46 = dktX4_provide_2 := dk_seg dksX4_provide_1 24 rfl rfl
theorem dksX4_provide_3 : cX4_provide.data.toList.drop 70 = dktX4_provide_3 := dk_seg dksX4_provide_2 24 rfl rfl
theorem dksX4_provide_4 : cX4_provide.data.toList.drop 94 = dktX4_provide_4 := dk_seg dksX4_provide_3 24 rfl rfl
theorem dksX4_provide_5 : cX4_provide.data.toList.drop 117 = dktX4_provide_5 := dk_seg dksX4_provide_4 23 rfl rfl
theorem dX4_provide_0 : decode cX4_provide 0 = .ok (.iload_n 1, 1) := dk_27 (dk_at dksX4_provide_0 0 rfl rfl)
theorem dX4_provide_1 : decode cX4_provide 1 = .ok (.iconst 1, 1) := dk_4 (dk_at dksX4_provide_0 1 rfl rfl)
theorem dX4_provide_2 : decode cX4_provide 2 = .ok (.bipush 60, 2) := dk_16 60 (dk_at dksX4_provide_0 2 rfl rfl)
theorem dX4_provide_4 : decode cX4_provide 4 = .ok (.invokestatic 494, 3) := dk_184 1 238 (dk_at dksX4_provide_0 4 rfl rfl)
theorem dX4_provide_7 : decode cX4_provide 7 = .ok (.ifCond .eq 12, 3) := dk_153 0 12 (dk_at dksX4_provide_0 7 rfl rfl)
theorem dX4_provide_10 : decode cX4_provide 10 = .ok (.iload_n 2, 1) := dk_28 (dk_at dksX4_provide_0 10 rfl rfl)
theorem dX4_provide_11 : decode cX4_provide 11 = .ok (.iconst 0, 1) := dk_3 (dk_at dksX4_provide_0 11 rfl rfl)
theorem dX4_provide_12 : decode cX4_provide 12 = .ok (.iconst 1, 1) := dk_4 (dk_at dksX4_provide_0 12 rfl rfl)
theorem dX4_provide_13 : decode cX4_provide 13 = .ok (.invokestatic 494, 3) := dk_184 1 238 (dk_at dksX4_provide_0 13 rfl rfl)
theorem dX4_provide_16 : decode cX4_provide 16 = .ok (.ifCond .ne 5, 3) := dk_154 0 5 (dk_at dksX4_provide_0 16 rfl rfl)
theorem dX4_provide_19 : decode cX4_provide 19 = .ok (.iconst (-1), 1) := dk_2 (dk_at dksX4_provide_0 19 rfl rfl)
theorem dX4_provide_20 : decode cX4_provide 20 = .ok (.ireturn, 1) := dk_172 (dk_at dksX4_provide_0 20 rfl rfl)
theorem dX4_provide_21 : decode cX4_provide 21 = .ok (.aload_n 0, 1) := dk_42 (dk_at dksX4_provide_0 21 rfl rfl)
theorem dX4_provide_22 : decode cX4_provide 22 = .ok (.invokevirtual 622, 3) := dk_182 2 110 (dk_at dksX4_provide_1 0 rfl rfl)
theorem dX4_provide_25 : decode cX4_provide 25 = .ok (.istore_n 3, 1) := dk_62 (dk_at dksX4_provide_1 3 rfl rfl)
theorem dX4_provide_26 : decode cX4_provide 26 = .ok (.iconst (-1), 1) := dk_2 (dk_at dksX4_provide_1 4 rfl rfl)
theorem dX4_provide_27 : decode cX4_provide 27 = .ok (.istore 4, 2) := dk_54 4 (dk_at dksX4_provide_1 5 rfl rfl)
theorem dX4_provide_29 : decode cX4_provide 29 = .ok (.iconst 1, 1) := dk_4 (dk_at dksX4_provide_1 7 rfl rfl)
theorem dX4_provide_30 : decode cX4_provide 30 = .ok (.istore 5, 2) := dk_54 5 (dk_at dksX4_provide_1 8 rfl rfl)
theorem dX4_provide_32 : decode cX4_provide 32 = .ok (.iload 5, 2) := dk_21 5 (dk_at dksX4_provide_1 10 rfl rfl)
theorem dX4_provide_34 : decode cX4_provide 34 = .ok (.iconst 1, 1) := dk_4 (dk_at dksX4_provide_1 12 rfl rfl)
theorem dX4_provide_35 : decode cX4_provide 35 = .ok (.aload_n 0, 1) := dk_42 (dk_at dksX4_provide_1 13 rfl rfl)
theorem dX4_provide_36 : decode cX4_provide 36 = .ok (.getfield 467, 3) := dk_180 1 211 (dk_at dksX4_provide_1 14 rfl rfl)
theorem dX4_provide_39 : decode cX4_provide 39 = .ok (.ishl, 1) := dk_120 (dk_at dksX4_provide_1 17 rfl rfl)
theorem dX4_provide_40 : decode cX4_provide 40 = .ok (.if_icmp .ge 62, 3) := dk_162 0 62 (dk_at dksX4_provide_1 18 rfl rfl)
theorem dX4_provide_43 : decode cX4_provide 43 = .ok (.iload 5, 2) := dk_21 5 (dk_at dksX4_provide_1 21 rfl rfl)
theorem dX4_provide_45 : decode cX4_provide 45 = .ok (.iload_n 3, 1) := dk_29 (dk_at dksX4_provide_1 23 rfl rfl)
theorem dX4_provide_46 : decode cX4_provide 46 = .ok (.iconst (-1), 1) := dk_2 (dk_at dksX4_provide_2 0 rfl rfl)
theorem dX4_provide_47 : decode cX4_provide 47 = .ok (.ixor, 1) := dk_130 (dk_at dksX4_provide_2 1 rfl rfl)
theorem dX4_provide_48 : decode cX4_provide 48 = .ok (.iand, 1) := dk_126 (dk_at dksX4_provide_2 2 rfl rfl)
theorem dX4_provide_49 : decode cX4_provide 49 = .ok (.ifCond .ne 47, 3) := dk_154 0 47 (dk_at dksX4_provide_2 3 rfl rfl)
theorem dX4_provide_52 : decode cX4_provide 52 = .ok (.iload 4, 2) := dk_21 4 (dk_at dksX4_provide_2 6 rfl rfl)
theorem dX4_provide_54 : decode cX4_provide 54 = .ok (.ifCond .lt 19, 3) := dk_155 0 19 (dk_at dksX4_provide_2 8 rfl rfl)
theorem dX4_provide_57 : decode cX4_provide 57 = .ok (.iload 5, 2) := dk_21 5 (dk_at dksX4_provide_2 11 rfl rfl)
theorem dX4_provide_59 : decode cX4_provide 59 = .ok (.invokestatic 628, 3) := dk_184 2 116 (dk_at dksX4_provide_2 13 rfl rfl)
theorem dX4_provide_62 : decode cX4_provide 62 = .ok (.iload 4, 2) := dk_21 4 (dk_at dksX4_provide_2 16 rfl rfl)
theorem dX4_provide_64 : decode cX4_provide 64 = .ok (.invokestatic 628, 3) := dk_184 2 116 (dk_at dksX4_provide_2 18 rfl rfl)
theorem dX4_provide_67 : decode cX4_provide 67 = .ok (.if_icmp .lt 6, 3) := dk_161 0 6 (dk_at dksX4_provide_2 21 rfl rfl)
theorem dX4_provide_70 : decode cX4_provide 70 = .ok (.goto 26, 3) := dk_167 0 26 (dk_at dksX4_provide_3 0 rfl rfl)
theorem dX4_provide_73 : decode cX4_provide 73 = .ok (.aload_n 0, 1) := dk_42 (dk_at dksX4_provide_3 3 rfl rfl)
theorem dX4_provide_74 : decode cX4_provide 74 = .ok (.iload 5, 2) := dk_21 5 (dk_at dksX4_provide_3 4 rfl rfl)
theorem dX4_provide_76 : decode cX4_provide 76 = .ok (.invokevirtual 625, 3) := dk_182 2 113 (dk_at dksX4_provide_3 6 rfl rfl)
theorem dX4_provide_79 : decode cX4_provide 79 = .ok (.istore 6, 2) := dk_54 6 (dk_at dksX4_provide_3 9 rfl rfl)
theorem dX4_provide_81 : decode cX4_provide 81 = .ok (.iload 6, 2) := dk_21 6 (dk_at dksX4_provide_3 11 rfl rfl)
theorem dX4_provide_83 : decode cX4_provide 83 = .ok (.ifCond .lt 9, 3) := dk_155 0 9 (dk_at dksX4_provide_3 13 rfl rfl)
theorem dX4_provide_86 : decode cX4_provide 86 = .ok (.iload 6, 2) := dk_21 6 (dk_at dksX4_provide_3 16 rfl rfl)
theorem dX4_provide_88 : decode cX4_provide 88 = .ok (.iload_n 1, 1) := dk_27 (dk_at dksX4_provide_3 18 rfl rfl)
theorem dX4_provide_89 : decode cX4_provide 89 = .ok (.if_icmp .le 7, 3) := dk_164 0 7 (dk_at dksX4_provide_3 19 rfl rfl)
theorem dX4_provide_92 : decode cX4_provide 92 = .ok (.iload 5, 2) := dk_21 5 (dk_at dksX4_provide_3 22 rfl rfl)
theorem dX4_provide_94 : decode cX4_provide 94 = .ok (.istore 4, 2) := dk_54 4 (dk_at dksX4_provide_4 0 rfl rfl)
theorem dX4_provide_96 : decode cX4_provide 96 = .ok (.iinc 5 1, 3) := dk_132 5 1 (dk_at dksX4_provide_4 2 rfl rfl)
theorem dX4_provide_99 : decode cX4_provide 99 = .ok (.goto (-67), 3) := dk_167 255 189 (dk_at dksX4_provide_4 5 rfl rfl)
theorem dX4_provide_102 : decode cX4_provide 102 = .ok (.iload 4, 2) := dk_21 4 (dk_at dksX4_provide_4 8 rfl rfl)
theorem dX4_provide_104 : decode cX4_provide 104 = .ok (.ifCond .ge 7, 3) := dk_156 0 7 (dk_at dksX4_provide_4 10 rfl rfl)
theorem dX4_provide_107 : decode cX4_provide 107 = .ok (.iconst (-1), 1) := dk_2 (dk_at dksX4_provide_4 13 rfl rfl)
theorem dX4_provide_108 : decode cX4_provide 108 = .ok (.goto 17, 3) := dk_167 0 17 (dk_at dksX4_provide_4 14 rfl rfl)
theorem dX4_provide_111 : decode cX4_provide 111 = .ok (.iload_n 2, 1) := dk_28 (dk_at dksX4_provide_4 17 rfl rfl)
theorem dX4_provide_112 : decode cX4_provide 112 = .ok (.ifCond .ne 11, 3) := dk_154 0 11 (dk_at dksX4_provide_4 18 rfl rfl)
theorem dX4_provide_115 : decode cX4_provide 115 = .ok (.iload 4, 2) := dk_21 4 (dk_at dksX4_provide_4 21 rfl rfl)
theorem dX4_provide_117 : decode cX4_provide 117 = .ok (.invokestatic 628, 3) := dk_184 2 116 (dk_at dksX4_provide_5 0 rfl rfl)
theorem dX4_provide_120 : decode cX4_provide 120 = .ok (.goto 5, 3) := dk_167 0 5 (dk_at dksX4_provide_5 3 rfl rfl)
theorem dX4_provide_123 : decode cX4_provide 123 = .ok (.iload 4, 2) := dk_21 4 (dk_at dksX4_provide_5 6 rfl rfl)
theorem dX4_provide_125 : decode cX4_provide 125 = .ok (.ireturn, 1) := dk_172 (dk_at dksX4_provide_5 8 rfl rfl)
abbrev cX4_members : ByteArray := prog_23_method_111_code
def yX4_members : MethodName := ⟨RX4, "members", "(I)I"⟩
def dkwX4_members_1 : List UInt8 := [27, 172]
abbrev dktX4_members_1 : List UInt8 := dkwX4_members_1 ++ []
def dkwX4_members_0 : List UInt8 := [3, 60, 3, 61, 28, 16, 10, 162, 0, 17, 27, 26, 28, 122, 4, 126, 96, 60, 132, 2, 1, 167, 255, 239]
abbrev dktX4_members_0 : List UInt8 := dkwX4_members_0 ++ dktX4_members_1
theorem dksX4_members_0 : cX4_members.data.toList.drop 0 = dktX4_members_0 := by decide +kernel
theorem dksX4_members_1 : cX4_members.data.toList.drop 24 = dktX4_members_1 := dk_seg dksX4_members_0 24 rfl rfl
theorem dX4_members_0 : decode cX4_members 0 = .ok (.iconst 0, 1) := dk_3 (dk_at dksX4_members_0 0 rfl rfl)
theorem dX4_members_1 : decode cX4_members 1 = .ok (.istore_n 1, 1) := dk_60 (dk_at dksX4_members_0 1 rfl rfl)
theorem dX4_members_2 : decode cX4_members 2 = .ok (.iconst 0, 1) := dk_3 (dk_at dksX4_members_0 2 rfl rfl)
theorem dX4_members_3 : decode cX4_members 3 = .ok (.istore_n 2, 1) := dk_61 (dk_at dksX4_members_0 3 rfl rfl)
theorem dX4_members_4 : decode cX4_members 4 = .ok (.iload_n 2, 1) := dk_28 (dk_at dksX4_members_0 4 rfl rfl)
theorem dX4_members_5 : decode cX4_members 5 = .ok (.bipush 10, 2) := dk_16 10 (dk_at dksX4_members_0 5 rfl rfl)
theorem dX4_members_7 : decode cX4_members 7 = .ok (.if_icmp .ge 17, 3) := dk_162 0 17 (dk_at dksX4_members_0 7 rfl rfl)
theorem dX4_members_10 : decode cX4_members 10 = .ok (.iload_n 1, 1) := dk_27 (dk_at dksX4_members_0 10 rfl rfl)
theorem dX4_members_11 : decode cX4_members 11 = .ok (.iload_n 0, 1) := dk_26 (dk_at dksX4_members_0 11 rfl rfl)
theorem dX4_members_12 : decode cX4_members 12 = .ok (.iload_n 2, 1) := dk_28 (dk_at dksX4_members_0 12 rfl rfl)
theorem dX4_members_13 : decode cX4_members 13 = .ok (.ishr, 1) := dk_122 (dk_at dksX4_members_0 13 rfl rfl)
theorem dX4_members_14 : decode cX4_members 14 = .ok (.iconst 1, 1) := dk_4 (dk_at dksX4_members_0 14 rfl rfl)
theorem dX4_members_15 : decode cX4_members 15 = .ok (.iand, 1) := dk_126 (dk_at dksX4_members_0 15 rfl rfl)
theorem dX4_members_16 : decode cX4_members 16 = .ok (.iadd, 1) := dk_96 (dk_at dksX4_members_0 16 rfl rfl)
theorem dX4_members_17 : decode cX4_members 17 = .ok (.istore_n 1, 1) := dk_60 (dk_at dksX4_members_0 17 rfl rfl)
theorem dX4_members_18 : decode cX4_members 18 = .ok (.iinc 2 1, 3) := dk_132 2 1 (dk_at dksX4_members_0 18 rfl rfl)
theorem dX4_members_21 : decode cX4_members 21 = .ok (.goto (-17), 3) := dk_167 255 239 (dk_at dksX4_members_0 21 rfl rfl)
theorem dX4_members_24 : decode cX4_members 24 = .ok (.iload_n 1, 1) := dk_27 (dk_at dksX4_members_1 0 rfl rfl)
theorem dX4_members_25 : decode cX4_members 25 = .ok (.ireturn, 1) := dk_172 (dk_at dksX4_members_1 1 rfl rfl)
abbrev cX4_match : ByteArray := prog_23_method_114_code
def yX4_match : MethodName := ⟨RX4, "match", "(II)I"⟩
def dkwX4_match_1 : List UInt8 := [42, 27, 28, 182, 2, 122, 167, 0, 6, 19, 2, 125, 172]
abbrev dktX4_match_1 : List UInt8 := dkwX4_match_1 ++ []
def dkwX4_match_0 : List UInt8 := [42, 27, 182, 2, 119, 153, 0, 28, 42, 28, 182, 2, 119, 153, 0, 20, 42, 180, 1, 214, 4, 164, 0, 12]
abbrev dktX4_match_0 : List UInt8 := dkwX4_match_0 ++ dktX4_match_1
theorem dksX4_match_0 : cX4_match.data.toList.drop 0 = dktX4_match_0 := by decide +kernel
theorem dksX4_match_1 : cX4_match.data.toList.drop 24 = dktX4_match_1 := dk_seg dksX4_match_0 24 rfl rfl
theorem dX4_match_0 : decode cX4_match 0 = .ok (.aload_n 0, 1) := dk_42 (dk_at dksX4_match_0 0 rfl rfl)
theorem dX4_match_1 : decode cX4_match 1 = .ok (.iload_n 1, 1) := dk_27 (dk_at dksX4_match_0 1 rfl rfl)
theorem dX4_match_2 : decode cX4_match 2 = .ok (.invokevirtual 631, 3) := dk_182 2 119 (dk_at dksX4_match_0 2 rfl rfl)
theorem dX4_match_5 : decode cX4_match 5 = .ok (.ifCond .eq 28, 3) := dk_153 0 28 (dk_at dksX4_match_0 5 rfl rfl)
theorem dX4_match_8 : decode cX4_match 8 = .ok (.aload_n 0, 1) := dk_42 (dk_at dksX4_match_0 8 rfl rfl)
theorem dX4_match_9 : decode cX4_match 9 = .ok (.iload_n 2, 1) := dk_28 (dk_at dksX4_match_0 9 rfl rfl)
theorem dX4_match_10 : decode cX4_match 10 = .ok (.invokevirtual 631, 3) := dk_182 2 119 (dk_at dksX4_match_0 10 rfl rfl)
theorem dX4_match_13 : decode cX4_match 13 = .ok (.ifCond .eq 20, 3) := dk_153 0 20 (dk_at dksX4_match_0 13 rfl rfl)
theorem dX4_match_16 : decode cX4_match 16 = .ok (.aload_n 0, 1) := dk_42 (dk_at dksX4_match_0 16 rfl rfl)
theorem dX4_match_17 : decode cX4_match 17 = .ok (.getfield 470, 3) := dk_180 1 214 (dk_at dksX4_match_0 17 rfl rfl)
theorem dX4_match_20 : decode cX4_match 20 = .ok (.iconst 1, 1) := dk_4 (dk_at dksX4_match_0 20 rfl rfl)
theorem dX4_match_21 : decode cX4_match 21 = .ok (.if_icmp .le 12, 3) := dk_164 0 12 (dk_at dksX4_match_0 21 rfl rfl)
theorem dX4_match_24 : decode cX4_match 24 = .ok (.aload_n 0, 1) := dk_42 (dk_at dksX4_match_1 0 rfl rfl)
theorem dX4_match_25 : decode cX4_match 25 = .ok (.iload_n 1, 1) := dk_27 (dk_at dksX4_match_1 1 rfl rfl)
theorem dX4_match_26 : decode cX4_match 26 = .ok (.iload_n 2, 1) := dk_28 (dk_at dksX4_match_1 2 rfl rfl)
theorem dX4_match_27 : decode cX4_match 27 = .ok (.invokevirtual 634, 3) := dk_182 2 122 (dk_at dksX4_match_1 3 rfl rfl)
theorem dX4_match_30 : decode cX4_match 30 = .ok (.goto 6, 3) := dk_167 0 6 (dk_at dksX4_match_1 6 rfl rfl)
theorem dX4_match_33 : decode cX4_match 33 = .ok (.ldc_w 637, 3) := dk_19 2 125 (dk_at dksX4_match_1 9 rfl rfl)
theorem dX4_match_36 : decode cX4_match 36 = .ok (.ireturn, 1) := dk_172 (dk_at dksX4_match_1 12 rfl rfl)
abbrev cX4_isRule : ByteArray := prog_23_method_53_code
def yX4_isRule : MethodName := ⟨RX4, "isRule", "(I)Z"⟩
def dkwX4_isRule_0 : List UInt8 := [27, 3, 42, 180, 1, 208, 4, 100, 184, 1, 238, 172]
abbrev dktX4_isRule_0 : List UInt8 := dkwX4_isRule_0 ++ []
theorem dksX4_isRule_0 : cX4_isRule.data.toList.drop 0 = dktX4_isRule_0 := by decide +kernel
theorem dX4_isRule_0 : decode cX4_isRule 0 = .ok (.iload_n 1, 1) := dk_27 (dk_at dksX4_isRule_0 0 rfl rfl)
theorem dX4_isRule_1 : decode cX4_isRule 1 = .ok (.iconst 0, 1) := dk_3 (dk_at dksX4_isRule_0 1 rfl rfl)
theorem dX4_isRule_2 : decode cX4_isRule 2 = .ok (.aload_n 0, 1) := dk_42 (dk_at dksX4_isRule_0 2 rfl rfl)
theorem dX4_isRule_3 : decode cX4_isRule 3 = .ok (.getfield 464, 3) := dk_180 1 208 (dk_at dksX4_isRule_0 3 rfl rfl)
theorem dX4_isRule_6 : decode cX4_isRule 6 = .ok (.iconst 1, 1) := dk_4 (dk_at dksX4_isRule_0 6 rfl rfl)
theorem dX4_isRule_7 : decode cX4_isRule 7 = .ok (.isub, 1) := dk_100 (dk_at dksX4_isRule_0 7 rfl rfl)
theorem dX4_isRule_8 : decode cX4_isRule 8 = .ok (.invokestatic 494, 3) := dk_184 1 238 (dk_at dksX4_isRule_0 8 rfl rfl)
theorem dX4_isRule_11 : decode cX4_isRule 11 = .ok (.ireturn, 1) := dk_172 (dk_at dksX4_isRule_0 11 rfl rfl)
abbrev cX4_matchOf : ByteArray := prog_23_method_113_code
def yX4_matchOf : MethodName := ⟨RX4, "matchOf", "(II)I"⟩
def dkwX4_matchOf_2 : List UInt8 := [3, 100, 62, 132, 4, 1, 167, 255, 212, 29, 172]
abbrev dktX4_matchOf_2 : List UInt8 := dkwX4_matchOf_2 ++ []
def dkwX4_matchOf_1 : List UInt8 := [153, 0, 7, 4, 167, 0, 4, 3, 96, 62, 29, 42, 4, 28, 182, 2, 72, 153, 0, 7, 4, 167, 0, 4]
abbrev dktX4_matchOf_1 : List UInt8 := dkwX4_matchOf_1 ++ dktX4_matchOf_2
def dkwX4_matchOf_0 : List UInt8 := [42, 182, 2, 54, 3, 62, 3, 54, 4, 21, 4, 16, 10, 162, 0, 43, 29, 42, 3, 27, 182, 2, 72]
abbrev dktX4_matchOf_0 : List UInt8 := dkwX4_matchOf_0 ++ dktX4_matchOf_1
theorem dksX4_matchOf_0 : cX4_matchOf.data.toList.drop 0 = dktX4_matchOf_0 := by decide +kernel
theorem dksX4_matchOf_1 : cX4_matchOf.data.toList.drop 23 = dktX4_matchOf_1 := dk_seg dksX4_matchOf_0 23 rfl rfl
theorem dksX4_matchOf_2 : cX4_matchOf.data.toList.drop 47 = dktX4_matchOf_2 := dk_seg dksX4_matchOf_1 24 rfl rfl
theorem dX4_matchOf_0 : decode cX4_matchOf 0 = .ok (.aload_n 0, 1) := dk_42 (dk_at dksX4_matchOf_0 0 rfl rfl)
theorem dX4_matchOf_1 : decode cX4_matchOf 1 = .ok (.invokevirtual 566, 3) := dk_182 2 54 (dk_at dksX4_matchOf_0 1 rfl rfl)
theorem dX4_matchOf_4 : decode cX4_matchOf 4 = .ok (.iconst 0, 1) := dk_3 (dk_at dksX4_matchOf_0 4 rfl rfl)
theorem dX4_matchOf_5 : decode cX4_matchOf 5 = .ok (.istore_n 3, 1) := dk_62 (dk_at dksX4_matchOf_0 5 rfl rfl)
theorem dX4_matchOf_6 : decode cX4_matchOf 6 = .ok (.iconst 0, 1) := dk_3 (dk_at dksX4_matchOf_0 6 rfl rfl)
theorem dX4_matchOf_7 : decode cX4_matchOf 7 = .ok (.istore 4, 2) := dk_54 4 (dk_at dksX4_matchOf_0 7 rfl rfl)
theorem dX4_matchOf_9 : decode cX4_matchOf 9 = .ok (.iload 4, 2) := dk_21 4 (dk_at dksX4_matchOf_0 9 rfl rfl)
theorem dX4_matchOf_11 : decode cX4_matchOf 11 = .ok (.bipush 10, 2) := dk_16 10 (dk_at dksX4_matchOf_0 11 rfl rfl)
theorem dX4_matchOf_13 : decode cX4_matchOf 13 = .ok (.if_icmp .ge 43, 3) := dk_162 0 43 (dk_at dksX4_matchOf_0 13 rfl rfl)
theorem dX4_matchOf_16 : decode cX4_matchOf 16 = .ok (.iload_n 3, 1) := dk_29 (dk_at dksX4_matchOf_0 16 rfl rfl)
theorem dX4_matchOf_17 : decode cX4_matchOf 17 = .ok (.aload_n 0, 1) := dk_42 (dk_at dksX4_matchOf_0 17 rfl rfl)
theorem dX4_matchOf_18 : decode cX4_matchOf 18 = .ok (.iconst 0, 1) := dk_3 (dk_at dksX4_matchOf_0 18 rfl rfl)
theorem dX4_matchOf_19 : decode cX4_matchOf 19 = .ok (.iload_n 1, 1) := dk_27 (dk_at dksX4_matchOf_0 19 rfl rfl)
theorem dX4_matchOf_20 : decode cX4_matchOf 20 = .ok (.invokevirtual 584, 3) := dk_182 2 72 (dk_at dksX4_matchOf_0 20 rfl rfl)
theorem dX4_matchOf_23 : decode cX4_matchOf 23 = .ok (.ifCond .eq 7, 3) := dk_153 0 7 (dk_at dksX4_matchOf_1 0 rfl rfl)
theorem dX4_matchOf_26 : decode cX4_matchOf 26 = .ok (.iconst 1, 1) := dk_4 (dk_at dksX4_matchOf_1 3 rfl rfl)
theorem dX4_matchOf_27 : decode cX4_matchOf 27 = .ok (.goto 4, 3) := dk_167 0 4 (dk_at dksX4_matchOf_1 4 rfl rfl)
theorem dX4_matchOf_30 : decode cX4_matchOf 30 = .ok (.iconst 0, 1) := dk_3 (dk_at dksX4_matchOf_1 7 rfl rfl)
theorem dX4_matchOf_31 : decode cX4_matchOf 31 = .ok (.iadd, 1) := dk_96 (dk_at dksX4_matchOf_1 8 rfl rfl)
theorem dX4_matchOf_32 : decode cX4_matchOf 32 = .ok (.istore_n 3, 1) := dk_62 (dk_at dksX4_matchOf_1 9 rfl rfl)
theorem dX4_matchOf_33 : decode cX4_matchOf 33 = .ok (.iload_n 3, 1) := dk_29 (dk_at dksX4_matchOf_1 10 rfl rfl)
theorem dX4_matchOf_34 : decode cX4_matchOf 34 = .ok (.aload_n 0, 1) := dk_42 (dk_at dksX4_matchOf_1 11 rfl rfl)
theorem dX4_matchOf_35 : decode cX4_matchOf 35 = .ok (.iconst 1, 1) := dk_4 (dk_at dksX4_matchOf_1 12 rfl rfl)
theorem dX4_matchOf_36 : decode cX4_matchOf 36 = .ok (.iload_n 2, 1) := dk_28 (dk_at dksX4_matchOf_1 13 rfl rfl)
theorem dX4_matchOf_37 : decode cX4_matchOf 37 = .ok (.invokevirtual 584, 3) := dk_182 2 72 (dk_at dksX4_matchOf_1 14 rfl rfl)
theorem dX4_matchOf_40 : decode cX4_matchOf 40 = .ok (.ifCond .eq 7, 3) := dk_153 0 7 (dk_at dksX4_matchOf_1 17 rfl rfl)
theorem dX4_matchOf_43 : decode cX4_matchOf 43 = .ok (.iconst 1, 1) := dk_4 (dk_at dksX4_matchOf_1 20 rfl rfl)
theorem dX4_matchOf_44 : decode cX4_matchOf 44 = .ok (.goto 4, 3) := dk_167 0 4 (dk_at dksX4_matchOf_1 21 rfl rfl)
theorem dX4_matchOf_47 : decode cX4_matchOf 47 = .ok (.iconst 0, 1) := dk_3 (dk_at dksX4_matchOf_2 0 rfl rfl)
theorem dX4_matchOf_48 : decode cX4_matchOf 48 = .ok (.isub, 1) := dk_100 (dk_at dksX4_matchOf_2 1 rfl rfl)
theorem dX4_matchOf_49 : decode cX4_matchOf 49 = .ok (.istore_n 3, 1) := dk_62 (dk_at dksX4_matchOf_2 2 rfl rfl)
theorem dX4_matchOf_50 : decode cX4_matchOf 50 = .ok (.iinc 4 1, 3) := dk_132 4 1 (dk_at dksX4_matchOf_2 3 rfl rfl)
theorem dX4_matchOf_53 : decode cX4_matchOf 53 = .ok (.goto (-44), 3) := dk_167 255 212 (dk_at dksX4_matchOf_2 6 rfl rfl)
theorem dX4_matchOf_56 : decode cX4_matchOf 56 = .ok (.iload_n 3, 1) := dk_29 (dk_at dksX4_matchOf_2 9 rfl rfl)
theorem dX4_matchOf_57 : decode cX4_matchOf 57 = .ok (.ireturn, 1) := dk_172 (dk_at dksX4_matchOf_2 10 rfl rfl)
abbrev cX4_reply : ByteArray := prog_23_method_115_code
def yX4_reply : MethodName := ⟨RX4, "reply", "(I)I"⟩
def dkwX4_reply_3 : List UInt8 := [172]
abbrev dktX4_reply_3 : List UInt8 := dkwX4_reply_3 ++ []
def dkwX4_reply_2 : List UInt8 := [54, 5, 21, 5, 29, 163, 0, 6, 167, 0, 9, 21, 4, 61, 21, 5, 62, 132, 4, 1, 167, 255, 220, 28]
abbrev dktX4_reply_2 : List UInt8 := dkwX4_reply_2 ++ dktX4_reply_3
def dkwX4_reply_1 : List UInt8 := [182, 2, 122, 62, 4, 54, 4, 21, 4, 42, 180, 1, 208, 162, 0, 33, 42, 21, 4, 27, 182, 2, 122]
abbrev dktX4_reply_1 : List UInt8 := dkwX4_reply_1 ++ dktX4_reply_2
def dkwX4_reply_0 : List UInt8 := [42, 27, 182, 2, 119, 153, 0, 11, 42, 180, 1, 214, 5, 162, 0, 5, 2, 172, 3, 61, 42, 3, 27]
abbrev dktX4_reply_0 : List UInt8 := dkwX4_reply_0 ++ dktX4_reply_1
theorem dksX4_reply_0 : cX4_reply.data.toList.drop 0 = dktX4_reply_0 := by decide +kernel
theorem dksX4_reply_1 : cX4_reply.data.toList.drop 23 = dktX4_reply_1 := dk_seg dksX4_reply_0 23 rfl rfl
theorem dksX4_reply_2 : cX4_reply.data.toList.drop 46 = dktX4_reply_2 := dk_seg dksX4_reply_1 23 rfl rfl
theorem dksX4_reply_3 : cX4_reply.data.toList.drop 70 = dktX4_reply_3 := dk_seg dksX4_reply_2 24 rfl rfl
theorem dX4_reply_0 : decode cX4_reply 0 = .ok (.aload_n 0, 1) := dk_42 (dk_at dksX4_reply_0 0 rfl rfl)
theorem dX4_reply_1 : decode cX4_reply 1 = .ok (.iload_n 1, 1) := dk_27 (dk_at dksX4_reply_0 1 rfl rfl)
theorem dX4_reply_2 : decode cX4_reply 2 = .ok (.invokevirtual 631, 3) := dk_182 2 119 (dk_at dksX4_reply_0 2 rfl rfl)
theorem dX4_reply_5 : decode cX4_reply 5 = .ok (.ifCond .eq 11, 3) := dk_153 0 11 (dk_at dksX4_reply_0 5 rfl rfl)
theorem dX4_reply_8 : decode cX4_reply 8 = .ok (.aload_n 0, 1) := dk_42 (dk_at dksX4_reply_0 8 rfl rfl)
theorem dX4_reply_9 : decode cX4_reply 9 = .ok (.getfield 470, 3) := dk_180 1 214 (dk_at dksX4_reply_0 9 rfl rfl)
theorem dX4_reply_12 : decode cX4_reply 12 = .ok (.iconst 2, 1) := dk_5 (dk_at dksX4_reply_0 12 rfl rfl)
theorem dX4_reply_13 : decode cX4_reply 13 = .ok (.if_icmp .ge 5, 3) := dk_162 0 5 (dk_at dksX4_reply_0 13 rfl rfl)
theorem dX4_reply_16 : decode cX4_reply 16 = .ok (.iconst (-1), 1) := dk_2 (dk_at dksX4_reply_0 16 rfl rfl)
theorem dX4_reply_17 : decode cX4_reply 17 = .ok (.ireturn, 1) := dk_172 (dk_at dksX4_reply_0 17 rfl rfl)
theorem dX4_reply_18 : decode cX4_reply 18 = .ok (.iconst 0, 1) := dk_3 (dk_at dksX4_reply_0 18 rfl rfl)
theorem dX4_reply_19 : decode cX4_reply 19 = .ok (.istore_n 2, 1) := dk_61 (dk_at dksX4_reply_0 19 rfl rfl)
theorem dX4_reply_20 : decode cX4_reply 20 = .ok (.aload_n 0, 1) := dk_42 (dk_at dksX4_reply_0 20 rfl rfl)
theorem dX4_reply_21 : decode cX4_reply 21 = .ok (.iconst 0, 1) := dk_3 (dk_at dksX4_reply_0 21 rfl rfl)
theorem dX4_reply_22 : decode cX4_reply 22 = .ok (.iload_n 1, 1) := dk_27 (dk_at dksX4_reply_0 22 rfl rfl)
theorem dX4_reply_23 : decode cX4_reply 23 = .ok (.invokevirtual 634, 3) := dk_182 2 122 (dk_at dksX4_reply_1 0 rfl rfl)
theorem dX4_reply_26 : decode cX4_reply 26 = .ok (.istore_n 3, 1) := dk_62 (dk_at dksX4_reply_1 3 rfl rfl)
theorem dX4_reply_27 : decode cX4_reply 27 = .ok (.iconst 1, 1) := dk_4 (dk_at dksX4_reply_1 4 rfl rfl)
theorem dX4_reply_28 : decode cX4_reply 28 = .ok (.istore 4, 2) := dk_54 4 (dk_at dksX4_reply_1 5 rfl rfl)
theorem dX4_reply_30 : decode cX4_reply 30 = .ok (.iload 4, 2) := dk_21 4 (dk_at dksX4_reply_1 7 rfl rfl)
theorem dX4_reply_32 : decode cX4_reply 32 = .ok (.aload_n 0, 1) := dk_42 (dk_at dksX4_reply_1 9 rfl rfl)
theorem dX4_reply_33 : decode cX4_reply 33 = .ok (.getfield 464, 3) := dk_180 1 208 (dk_at dksX4_reply_1 10 rfl rfl)
theorem dX4_reply_36 : decode cX4_reply 36 = .ok (.if_icmp .ge 33, 3) := dk_162 0 33 (dk_at dksX4_reply_1 13 rfl rfl)
theorem dX4_reply_39 : decode cX4_reply 39 = .ok (.aload_n 0, 1) := dk_42 (dk_at dksX4_reply_1 16 rfl rfl)
theorem dX4_reply_40 : decode cX4_reply 40 = .ok (.iload 4, 2) := dk_21 4 (dk_at dksX4_reply_1 17 rfl rfl)
theorem dX4_reply_42 : decode cX4_reply 42 = .ok (.iload_n 1, 1) := dk_27 (dk_at dksX4_reply_1 19 rfl rfl)
theorem dX4_reply_43 : decode cX4_reply 43 = .ok (.invokevirtual 634, 3) := dk_182 2 122 (dk_at dksX4_reply_1 20 rfl rfl)
theorem dX4_reply_46 : decode cX4_reply 46 = .ok (.istore 5, 2) := dk_54 5 (dk_at dksX4_reply_2 0 rfl rfl)
theorem dX4_reply_48 : decode cX4_reply 48 = .ok (.iload 5, 2) := dk_21 5 (dk_at dksX4_reply_2 2 rfl rfl)
theorem dX4_reply_50 : decode cX4_reply 50 = .ok (.iload_n 3, 1) := dk_29 (dk_at dksX4_reply_2 4 rfl rfl)
theorem dX4_reply_51 : decode cX4_reply 51 = .ok (.if_icmp .gt 6, 3) := dk_163 0 6 (dk_at dksX4_reply_2 5 rfl rfl)
theorem dX4_reply_54 : decode cX4_reply 54 = .ok (.goto 9, 3) := dk_167 0 9 (dk_at dksX4_reply_2 8 rfl rfl)
theorem dX4_reply_57 : decode cX4_reply 57 = .ok (.iload 4, 2) := dk_21 4 (dk_at dksX4_reply_2 11 rfl rfl)
theorem dX4_reply_59 : decode cX4_reply 59 = .ok (.istore_n 2, 1) := dk_61 (dk_at dksX4_reply_2 13 rfl rfl)
theorem dX4_reply_60 : decode cX4_reply 60 = .ok (.iload 5, 2) := dk_21 5 (dk_at dksX4_reply_2 14 rfl rfl)
theorem dX4_reply_62 : decode cX4_reply 62 = .ok (.istore_n 3, 1) := dk_62 (dk_at dksX4_reply_2 16 rfl rfl)
theorem dX4_reply_63 : decode cX4_reply 63 = .ok (.iinc 4 1, 3) := dk_132 4 1 (dk_at dksX4_reply_2 17 rfl rfl)
theorem dX4_reply_66 : decode cX4_reply 66 = .ok (.goto (-36), 3) := dk_167 255 220 (dk_at dksX4_reply_2 20 rfl rfl)
theorem dX4_reply_69 : decode cX4_reply 69 = .ok (.iload_n 2, 1) := dk_28 (dk_at dksX4_reply_2 23 rfl rfl)
theorem dX4_reply_70 : decode cX4_reply 70 = .ok (.ireturn, 1) := dk_172 (dk_at dksX4_reply_3 0 rfl rfl)
abbrev cX4_rests : ByteArray := prog_23_method_117_code
def yX4_rests : MethodName := ⟨RX4, "rests", "()I"⟩
def dkwX4_rests_6 : List UInt8 := [172]
abbrev dktX4_rests_6 : List UInt8 := dkwX4_rests_6 ++ []
def dkwX4_rests_5 : List UInt8 := [180, 1, 235, 4, 96, 181, 1, 235, 132, 2, 1, 167, 255, 208, 132, 1, 1, 167, 255, 192, 42, 180, 1, 235]
abbrev dktX4_rests_5 : List UInt8 := dkwX4_rests_5 ++ dktX4_rests_6
def dkwX4_rests_4 : List UInt8 := [154, 0, 6, 167, 0, 28, 42, 180, 0, 157, 42, 180, 1, 235, 16, 10, 27, 104, 28, 96, 79, 42, 89]
abbrev dktX4_rests_4 : List UInt8 := dkwX4_rests_4 ++ dktX4_rests_5
def dkwX4_rests_3 : List UInt8 := [180, 1, 208, 162, 0, 62, 3, 61, 28, 42, 180, 1, 208, 162, 0, 46, 42, 27, 28, 182, 2, 126]
abbrev dktX4_rests_3 : List UInt8 := dkwX4_rests_3 ++ dktX4_rests_4
def dkwX4_rests_2 : List UInt8 := [27, 28, 182, 2, 122, 79, 132, 2, 1, 167, 255, 228, 132, 1, 1, 167, 255, 212, 3, 60, 27, 42]
abbrev dktX4_rests_2 : List UInt8 := dkwX4_rests_2 ++ dktX4_rests_3
def dkwX4_rests_1 : List UInt8 := [162, 0, 42, 3, 61, 28, 42, 180, 1, 208, 162, 0, 26, 42, 180, 0, 160, 16, 6, 27, 104, 28, 96, 42]
abbrev dktX4_rests_1 : List UInt8 := dkwX4_rests_1 ++ dktX4_rests_2
def dkwX4_rests_0 : List UInt8 := [42, 3, 181, 1, 235, 42, 180, 1, 214, 5, 162, 0, 5, 3, 172, 3, 60, 27, 42, 180, 1, 208]
abbrev dktX4_rests_0 : List UInt8 := dkwX4_rests_0 ++ dktX4_rests_1
theorem dksX4_rests_0 : cX4_rests.data.toList.drop 0 = dktX4_rests_0 := by decide +kernel
theorem dksX4_rests_1 : cX4_rests.data.toList.drop 22 = dktX4_rests_1 := dk_seg dksX4_rests_0 22 rfl rfl
theorem dksX4_rests_2 : cX4_rests.data.toList.drop 46 = dktX4_rests_2 := dk_seg dksX4_rests_1 24 rfl rfl
theorem dksX4_rests_3 : cX4_rests.data.toList.drop 68 = dktX4_rests_3 := dk_seg dksX4_rests_2 22 rfl rfl
theorem dksX4_rests_4 : cX4_rests.data.toList.drop 90 = dktX4_rests_4 := dk_seg dksX4_rests_3 22 rfl rfl
theorem dksX4_rests_5 : cX4_rests.data.toList.drop 113 = dktX4_rests_5 := dk_seg dksX4_rests_4 23 rfl rfl
theorem dksX4_rests_6 : cX4_rests.data.toList.drop 137 = dktX4_rests_6 := dk_seg dksX4_rests_5 24 rfl rfl
theorem dX4_rests_0 : decode cX4_rests 0 = .ok (.aload_n 0, 1) := dk_42 (dk_at dksX4_rests_0 0 rfl rfl)
theorem dX4_rests_1 : decode cX4_rests 1 = .ok (.iconst 0, 1) := dk_3 (dk_at dksX4_rests_0 1 rfl rfl)
theorem dX4_rests_2 : decode cX4_rests 2 = .ok (.putfield 491, 3) := dk_181 1 235 (dk_at dksX4_rests_0 2 rfl rfl)
theorem dX4_rests_5 : decode cX4_rests 5 = .ok (.aload_n 0, 1) := dk_42 (dk_at dksX4_rests_0 5 rfl rfl)
theorem dX4_rests_6 : decode cX4_rests 6 = .ok (.getfield 470, 3) := dk_180 1 214 (dk_at dksX4_rests_0 6 rfl rfl)
theorem dX4_rests_9 : decode cX4_rests 9 = .ok (.iconst 2, 1) := dk_5 (dk_at dksX4_rests_0 9 rfl rfl)
theorem dX4_rests_10 : decode cX4_rests 10 = .ok (.if_icmp .ge 5, 3) := dk_162 0 5 (dk_at dksX4_rests_0 10 rfl rfl)
theorem dX4_rests_13 : decode cX4_rests 13 = .ok (.iconst 0, 1) := dk_3 (dk_at dksX4_rests_0 13 rfl rfl)
theorem dX4_rests_14 : decode cX4_rests 14 = .ok (.ireturn, 1) := dk_172 (dk_at dksX4_rests_0 14 rfl rfl)
theorem dX4_rests_15 : decode cX4_rests 15 = .ok (.iconst 0, 1) := dk_3 (dk_at dksX4_rests_0 15 rfl rfl)
theorem dX4_rests_16 : decode cX4_rests 16 = .ok (.istore_n 1, 1) := dk_60 (dk_at dksX4_rests_0 16 rfl rfl)
theorem dX4_rests_17 : decode cX4_rests 17 = .ok (.iload_n 1, 1) := dk_27 (dk_at dksX4_rests_0 17 rfl rfl)
theorem dX4_rests_18 : decode cX4_rests 18 = .ok (.aload_n 0, 1) := dk_42 (dk_at dksX4_rests_0 18 rfl rfl)
theorem dX4_rests_19 : decode cX4_rests 19 = .ok (.getfield 464, 3) := dk_180 1 208 (dk_at dksX4_rests_0 19 rfl rfl)
theorem dX4_rests_22 : decode cX4_rests 22 = .ok (.if_icmp .ge 42, 3) := dk_162 0 42 (dk_at dksX4_rests_1 0 rfl rfl)
theorem dX4_rests_25 : decode cX4_rests 25 = .ok (.iconst 0, 1) := dk_3 (dk_at dksX4_rests_1 3 rfl rfl)
theorem dX4_rests_26 : decode cX4_rests 26 = .ok (.istore_n 2, 1) := dk_61 (dk_at dksX4_rests_1 4 rfl rfl)
theorem dX4_rests_27 : decode cX4_rests 27 = .ok (.iload_n 2, 1) := dk_28 (dk_at dksX4_rests_1 5 rfl rfl)
theorem dX4_rests_28 : decode cX4_rests 28 = .ok (.aload_n 0, 1) := dk_42 (dk_at dksX4_rests_1 6 rfl rfl)
theorem dX4_rests_29 : decode cX4_rests 29 = .ok (.getfield 464, 3) := dk_180 1 208 (dk_at dksX4_rests_1 7 rfl rfl)
theorem dX4_rests_32 : decode cX4_rests 32 = .ok (.if_icmp .ge 26, 3) := dk_162 0 26 (dk_at dksX4_rests_1 10 rfl rfl)
theorem dX4_rests_35 : decode cX4_rests 35 = .ok (.aload_n 0, 1) := dk_42 (dk_at dksX4_rests_1 13 rfl rfl)
theorem dX4_rests_36 : decode cX4_rests 36 = .ok (.getfield 160, 3) := dk_180 0 160 (dk_at dksX4_rests_1 14 rfl rfl)
theorem dX4_rests_39 : decode cX4_rests 39 = .ok (.bipush 6, 2) := dk_16 6 (dk_at dksX4_rests_1 17 rfl rfl)
theorem dX4_rests_41 : decode cX4_rests 41 = .ok (.iload_n 1, 1) := dk_27 (dk_at dksX4_rests_1 19 rfl rfl)
theorem dX4_rests_42 : decode cX4_rests 42 = .ok (.imul, 1) := dk_104 (dk_at dksX4_rests_1 20 rfl rfl)
theorem dX4_rests_43 : decode cX4_rests 43 = .ok (.iload_n 2, 1) := dk_28 (dk_at dksX4_rests_1 21 rfl rfl)
theorem dX4_rests_44 : decode cX4_rests 44 = .ok (.iadd, 1) := dk_96 (dk_at dksX4_rests_1 22 rfl rfl)
theorem dX4_rests_45 : decode cX4_rests 45 = .ok (.aload_n 0, 1) := dk_42 (dk_at dksX4_rests_1 23 rfl rfl)
theorem dX4_rests_46 : decode cX4_rests 46 = .ok (.iload_n 1, 1) := dk_27 (dk_at dksX4_rests_2 0 rfl rfl)
theorem dX4_rests_47 : decode cX4_rests 47 = .ok (.iload_n 2, 1) := dk_28 (dk_at dksX4_rests_2 1 rfl rfl)
theorem dX4_rests_48 : decode cX4_rests 48 = .ok (.invokevirtual 634, 3) := dk_182 2 122 (dk_at dksX4_rests_2 2 rfl rfl)
theorem dX4_rests_51 : decode cX4_rests 51 = .ok (.iastore, 1) := dk_79 (dk_at dksX4_rests_2 5 rfl rfl)
theorem dX4_rests_52 : decode cX4_rests 52 = .ok (.iinc 2 1, 3) := dk_132 2 1 (dk_at dksX4_rests_2 6 rfl rfl)
theorem dX4_rests_55 : decode cX4_rests 55 = .ok (.goto (-28), 3) := dk_167 255 228 (dk_at dksX4_rests_2 9 rfl rfl)
theorem dX4_rests_58 : decode cX4_rests 58 = .ok (.iinc 1 1, 3) := dk_132 1 1 (dk_at dksX4_rests_2 12 rfl rfl)
theorem dX4_rests_61 : decode cX4_rests 61 = .ok (.goto (-44), 3) := dk_167 255 212 (dk_at dksX4_rests_2 15 rfl rfl)
theorem dX4_rests_64 : decode cX4_rests 64 = .ok (.iconst 0, 1) := dk_3 (dk_at dksX4_rests_2 18 rfl rfl)
theorem dX4_rests_65 : decode cX4_rests 65 = .ok (.istore_n 1, 1) := dk_60 (dk_at dksX4_rests_2 19 rfl rfl)
theorem dX4_rests_66 : decode cX4_rests 66 = .ok (.iload_n 1, 1) := dk_27 (dk_at dksX4_rests_2 20 rfl rfl)
theorem dX4_rests_67 : decode cX4_rests 67 = .ok (.aload_n 0, 1) := dk_42 (dk_at dksX4_rests_2 21 rfl rfl)
theorem dX4_rests_68 : decode cX4_rests 68 = .ok (.getfield 464, 3) := dk_180 1 208 (dk_at dksX4_rests_3 0 rfl rfl)
theorem dX4_rests_71 : decode cX4_rests 71 = .ok (.if_icmp .ge 62, 3) := dk_162 0 62 (dk_at dksX4_rests_3 3 rfl rfl)
theorem dX4_rests_74 : decode cX4_rests 74 = .ok (.iconst 0, 1) := dk_3 (dk_at dksX4_rests_3 6 rfl rfl)
theorem dX4_rests_75 : decode cX4_rests 75 = .ok (.istore_n 2, 1) := dk_61 (dk_at dksX4_rests_3 7 rfl rfl)
theorem dX4_rests_76 : decode cX4_rests 76 = .ok (.iload_n 2, 1) := dk_28 (dk_at dksX4_rests_3 8 rfl rfl)
theorem dX4_rests_77 : decode cX4_rests 77 = .ok (.aload_n 0, 1) := dk_42 (dk_at dksX4_rests_3 9 rfl rfl)
theorem dX4_rests_78 : decode cX4_rests 78 = .ok (.getfield 464, 3) := dk_180 1 208 (dk_at dksX4_rests_3 10 rfl rfl)
theorem dX4_rests_81 : decode cX4_rests 81 = .ok (.if_icmp .ge 46, 3) := dk_162 0 46 (dk_at dksX4_rests_3 13 rfl rfl)
theorem dX4_rests_84 : decode cX4_rests 84 = .ok (.aload_n 0, 1) := dk_42 (dk_at dksX4_rests_3 16 rfl rfl)
theorem dX4_rests_85 : decode cX4_rests 85 = .ok (.iload_n 1, 1) := dk_27 (dk_at dksX4_rests_3 17 rfl rfl)
theorem dX4_rests_86 : decode cX4_rests 86 = .ok (.iload_n 2, 1) := dk_28 (dk_at dksX4_rests_3 18 rfl rfl)
theorem dX4_rests_87 : decode cX4_rests 87 = .ok (.invokevirtual 638, 3) := dk_182 2 126 (dk_at dksX4_rests_3 19 rfl rfl)
theorem dX4_rests_90 : decode cX4_rests 90 = .ok (.ifCond .ne 6, 3) := dk_154 0 6 (dk_at dksX4_rests_4 0 rfl rfl)
theorem dX4_rests_93 : decode cX4_rests 93 = .ok (.goto 28, 3) := dk_167 0 28 (dk_at dksX4_rests_4 3 rfl rfl)
theorem dX4_rests_96 : decode cX4_rests 96 = .ok (.aload_n 0, 1) := dk_42 (dk_at dksX4_rests_4 6 rfl rfl)
theorem dX4_rests_97 : decode cX4_rests 97 = .ok (.getfield 157, 3) := dk_180 0 157 (dk_at dksX4_rests_4 7 rfl rfl)
theorem dX4_rests_100 : decode cX4_rests 100 = .ok (.aload_n 0, 1) := dk_42 (dk_at dksX4_rests_4 10 rfl rfl)
theorem dX4_rests_101 : decode cX4_rests 101 = .ok (.getfield 491, 3) := dk_180 1 235 (dk_at dksX4_rests_4 11 rfl rfl)
theorem dX4_rests_104 : decode cX4_rests 104 = .ok (.bipush 10, 2) := dk_16 10 (dk_at dksX4_rests_4 14 rfl rfl)
theorem dX4_rests_106 : decode cX4_rests 106 = .ok (.iload_n 1, 1) := dk_27 (dk_at dksX4_rests_4 16 rfl rfl)
theorem dX4_rests_107 : decode cX4_rests 107 = .ok (.imul, 1) := dk_104 (dk_at dksX4_rests_4 17 rfl rfl)
theorem dX4_rests_108 : decode cX4_rests 108 = .ok (.iload_n 2, 1) := dk_28 (dk_at dksX4_rests_4 18 rfl rfl)
theorem dX4_rests_109 : decode cX4_rests 109 = .ok (.iadd, 1) := dk_96 (dk_at dksX4_rests_4 19 rfl rfl)
theorem dX4_rests_110 : decode cX4_rests 110 = .ok (.iastore, 1) := dk_79 (dk_at dksX4_rests_4 20 rfl rfl)
theorem dX4_rests_111 : decode cX4_rests 111 = .ok (.aload_n 0, 1) := dk_42 (dk_at dksX4_rests_4 21 rfl rfl)
theorem dX4_rests_112 : decode cX4_rests 112 = .ok (.dup, 1) := dk_89 (dk_at dksX4_rests_4 22 rfl rfl)
theorem dX4_rests_113 : decode cX4_rests 113 = .ok (.getfield 491, 3) := dk_180 1 235 (dk_at dksX4_rests_5 0 rfl rfl)
theorem dX4_rests_116 : decode cX4_rests 116 = .ok (.iconst 1, 1) := dk_4 (dk_at dksX4_rests_5 3 rfl rfl)
theorem dX4_rests_117 : decode cX4_rests 117 = .ok (.iadd, 1) := dk_96 (dk_at dksX4_rests_5 4 rfl rfl)
theorem dX4_rests_118 : decode cX4_rests 118 = .ok (.putfield 491, 3) := dk_181 1 235 (dk_at dksX4_rests_5 5 rfl rfl)
theorem dX4_rests_121 : decode cX4_rests 121 = .ok (.iinc 2 1, 3) := dk_132 2 1 (dk_at dksX4_rests_5 8 rfl rfl)
theorem dX4_rests_124 : decode cX4_rests 124 = .ok (.goto (-48), 3) := dk_167 255 208 (dk_at dksX4_rests_5 11 rfl rfl)
theorem dX4_rests_127 : decode cX4_rests 127 = .ok (.iinc 1 1, 3) := dk_132 1 1 (dk_at dksX4_rests_5 14 rfl rfl)
theorem dX4_rests_130 : decode cX4_rests 130 = .ok (.goto (-64), 3) := dk_167 255 192 (dk_at dksX4_rests_5 17 rfl rfl)
theorem dX4_rests_133 : decode cX4_rests 133 = .ok (.aload_n 0, 1) := dk_42 (dk_at dksX4_rests_5 20 rfl rfl)
theorem dX4_rests_134 : decode cX4_rests 134 = .ok (.getfield 491, 3) := dk_180 1 235 (dk_at dksX4_rests_5 21 rfl rfl)
theorem dX4_rests_137 : decode cX4_rests 137 = .ok (.ireturn, 1) := dk_172 (dk_at dksX4_rests_6 0 rfl rfl)
abbrev cX4_doesRest : ByteArray := prog_23_method_116_code
def yX4_doesRest : MethodName := ⟨RX4, "doesRest", "(II)Z"⟩
def dkwX4_doesRest_3 : List UInt8 := [167, 0, 4, 3, 62, 132, 4, 1, 167, 255, 182, 29, 172]
abbrev dktX4_doesRest_3 : List UInt8 := dkwX4_doesRest_3 ++ []
def dkwX4_doesRest_2 : List UInt8 := [16, 6, 27, 104, 21, 4, 96, 46, 42, 180, 0, 160, 16, 6, 27, 104, 28, 96, 46, 161, 0, 7, 4]
abbrev dktX4_doesRest_2 : List UInt8 := dkwX4_doesRest_2 ++ dktX4_doesRest_3
def dkwX4_doesRest_1 : List UInt8 := [21, 4, 104, 28, 96, 46, 42, 180, 0, 160, 16, 6, 27, 104, 28, 96, 46, 163, 0, 33, 42, 180, 0, 160]
abbrev dktX4_doesRest_1 : List UInt8 := dkwX4_doesRest_1 ++ dktX4_doesRest_2
def dkwX4_doesRest_0 : List UInt8 := [4, 62, 3, 54, 4, 21, 4, 42, 180, 1, 208, 162, 0, 71, 29, 153, 0, 59, 42, 180, 0, 160, 16, 6]
abbrev dktX4_doesRest_0 : List UInt8 := dkwX4_doesRest_0 ++ dktX4_doesRest_1
theorem dksX4_doesRest_0 : cX4_doesRest.data.toList.drop 0 = dktX4_doesRest_0 := by decide +kernel
theorem dksX4_doesRest_1 : cX4_doesRest.data.toList.drop 24 = dktX4_doesRest_1 := dk_seg dksX4_doesRest_0 24 rfl rfl
theorem dksX4_doesRest_2 : cX4_doesRest.data.toList.drop 48 = dktX4_doesRest_2 := dk_seg dksX4_doesRest_1 24 rfl rfl
theorem dksX4_doesRest_3 : cX4_doesRest.data.toList.drop 71 = dktX4_doesRest_3 := dk_seg dksX4_doesRest_2 23 rfl rfl
theorem dX4_doesRest_0 : decode cX4_doesRest 0 = .ok (.iconst 1, 1) := dk_4 (dk_at dksX4_doesRest_0 0 rfl rfl)
theorem dX4_doesRest_1 : decode cX4_doesRest 1 = .ok (.istore_n 3, 1) := dk_62 (dk_at dksX4_doesRest_0 1 rfl rfl)
theorem dX4_doesRest_2 : decode cX4_doesRest 2 = .ok (.iconst 0, 1) := dk_3 (dk_at dksX4_doesRest_0 2 rfl rfl)
theorem dX4_doesRest_3 : decode cX4_doesRest 3 = .ok (.istore 4, 2) := dk_54 4 (dk_at dksX4_doesRest_0 3 rfl rfl)
theorem dX4_doesRest_5 : decode cX4_doesRest 5 = .ok (.iload 4, 2) := dk_21 4 (dk_at dksX4_doesRest_0 5 rfl rfl)
theorem dX4_doesRest_7 : decode cX4_doesRest 7 = .ok (.aload_n 0, 1) := dk_42 (dk_at dksX4_doesRest_0 7 rfl rfl)
theorem dX4_doesRest_8 : decode cX4_doesRest 8 = .ok (.getfield 464, 3) := dk_180 1 208 (dk_at dksX4_doesRest_0 8 rfl rfl)
theorem dX4_doesRest_11 : decode cX4_doesRest 11 = .ok (.if_icmp .ge 71, 3) := dk_162 0 71 (dk_at dksX4_doesRest_0 11 rfl rfl)
theorem dX4_doesRest_14 : decode cX4_doesRest 14 = .ok (.iload_n 3, 1) := dk_29 (dk_at dksX4_doesRest_0 14 rfl rfl)
theorem dX4_doesRest_15 : decode cX4_doesRest 15 = .ok (.ifCond .eq 59, 3) := dk_153 0 59 (dk_at dksX4_doesRest_0 15 rfl rfl)
theorem dX4_doesRest_18 : decode cX4_doesRest 18 = .ok (.aload_n 0, 1) := dk_42 (dk_at dksX4_doesRest_0 18 rfl rfl)
theorem dX4_doesRest_19 : decode cX4_doesRest 19 = .ok (.getfield 160, 3) := dk_180 0 160 (dk_at dksX4_doesRest_0 19 rfl rfl)
theorem dX4_doesRest_22 : decode cX4_doesRest 22 = .ok (.bipush 6, 2) := dk_16 6 (dk_at dksX4_doesRest_0 22 rfl rfl)
theorem dX4_doesRest_24 : decode cX4_doesRest 24 = .ok (.iload 4, 2) := dk_21 4 (dk_at dksX4_doesRest_1 0 rfl rfl)
theorem dX4_doesRest_26 : decode cX4_doesRest 26 = .ok (.imul, 1) := dk_104 (dk_at dksX4_doesRest_1 2 rfl rfl)
theorem dX4_doesRest_27 : decode cX4_doesRest 27 = .ok (.iload_n 2, 1) := dk_28 (dk_at dksX4_doesRest_1 3 rfl rfl)
theorem dX4_doesRest_28 : decode cX4_doesRest 28 = .ok (.iadd, 1) := dk_96 (dk_at dksX4_doesRest_1 4 rfl rfl)
theorem dX4_doesRest_29 : decode cX4_doesRest 29 = .ok (.iaload, 1) := dk_46 (dk_at dksX4_doesRest_1 5 rfl rfl)
theorem dX4_doesRest_30 : decode cX4_doesRest 30 = .ok (.aload_n 0, 1) := dk_42 (dk_at dksX4_doesRest_1 6 rfl rfl)
theorem dX4_doesRest_31 : decode cX4_doesRest 31 = .ok (.getfield 160, 3) := dk_180 0 160 (dk_at dksX4_doesRest_1 7 rfl rfl)
theorem dX4_doesRest_34 : decode cX4_doesRest 34 = .ok (.bipush 6, 2) := dk_16 6 (dk_at dksX4_doesRest_1 10 rfl rfl)
theorem dX4_doesRest_36 : decode cX4_doesRest 36 = .ok (.iload_n 1, 1) := dk_27 (dk_at dksX4_doesRest_1 12 rfl rfl)
theorem dX4_doesRest_37 : decode cX4_doesRest 37 = .ok (.imul, 1) := dk_104 (dk_at dksX4_doesRest_1 13 rfl rfl)
theorem dX4_doesRest_38 : decode cX4_doesRest 38 = .ok (.iload_n 2, 1) := dk_28 (dk_at dksX4_doesRest_1 14 rfl rfl)
theorem dX4_doesRest_39 : decode cX4_doesRest 39 = .ok (.iadd, 1) := dk_96 (dk_at dksX4_doesRest_1 15 rfl rfl)
theorem dX4_doesRest_40 : decode cX4_doesRest 40 = .ok (.iaload, 1) := dk_46 (dk_at dksX4_doesRest_1 16 rfl rfl)
theorem dX4_doesRest_41 : decode cX4_doesRest 41 = .ok (.if_icmp .gt 33, 3) := dk_163 0 33 (dk_at dksX4_doesRest_1 17 rfl rfl)
theorem dX4_doesRest_44 : decode cX4_doesRest 44 = .ok (.aload_n 0, 1) := dk_42 (dk_at dksX4_doesRest_1 20 rfl rfl)
theorem dX4_doesRest_45 : decode cX4_doesRest 45 = .ok (.getfield 160, 3) := dk_180 0 160 (dk_at dksX4_doesRest_1 21 rfl rfl)
theorem dX4_doesRest_48 : decode cX4_doesRest 48 = .ok (.bipush 6, 2) := dk_16 6 (dk_at dksX4_doesRest_2 0 rfl rfl)
theorem dX4_doesRest_50 : decode cX4_doesRest 50 = .ok (.iload_n 1, 1) := dk_27 (dk_at dksX4_doesRest_2 2 rfl rfl)
theorem dX4_doesRest_51 : decode cX4_doesRest 51 = .ok (.imul, 1) := dk_104 (dk_at dksX4_doesRest_2 3 rfl rfl)
theorem dX4_doesRest_52 : decode cX4_doesRest 52 = .ok (.iload 4, 2) := dk_21 4 (dk_at dksX4_doesRest_2 4 rfl rfl)
theorem dX4_doesRest_54 : decode cX4_doesRest 54 = .ok (.iadd, 1) := dk_96 (dk_at dksX4_doesRest_2 6 rfl rfl)
theorem dX4_doesRest_55 : decode cX4_doesRest 55 = .ok (.iaload, 1) := dk_46 (dk_at dksX4_doesRest_2 7 rfl rfl)
theorem dX4_doesRest_56 : decode cX4_doesRest 56 = .ok (.aload_n 0, 1) := dk_42 (dk_at dksX4_doesRest_2 8 rfl rfl)
theorem dX4_doesRest_57 : decode cX4_doesRest 57 = .ok (.getfield 160, 3) := dk_180 0 160 (dk_at dksX4_doesRest_2 9 rfl rfl)
theorem dX4_doesRest_60 : decode cX4_doesRest 60 = .ok (.bipush 6, 2) := dk_16 6 (dk_at dksX4_doesRest_2 12 rfl rfl)
theorem dX4_doesRest_62 : decode cX4_doesRest 62 = .ok (.iload_n 1, 1) := dk_27 (dk_at dksX4_doesRest_2 14 rfl rfl)
theorem dX4_doesRest_63 : decode cX4_doesRest 63 = .ok (.imul, 1) := dk_104 (dk_at dksX4_doesRest_2 15 rfl rfl)
theorem dX4_doesRest_64 : decode cX4_doesRest 64 = .ok (.iload_n 2, 1) := dk_28 (dk_at dksX4_doesRest_2 16 rfl rfl)
theorem dX4_doesRest_65 : decode cX4_doesRest 65 = .ok (.iadd, 1) := dk_96 (dk_at dksX4_doesRest_2 17 rfl rfl)
theorem dX4_doesRest_66 : decode cX4_doesRest 66 = .ok (.iaload, 1) := dk_46 (dk_at dksX4_doesRest_2 18 rfl rfl)
theorem dX4_doesRest_67 : decode cX4_doesRest 67 = .ok (.if_icmp .lt 7, 3) := dk_161 0 7 (dk_at dksX4_doesRest_2 19 rfl rfl)
theorem dX4_doesRest_70 : decode cX4_doesRest 70 = .ok (.iconst 1, 1) := dk_4 (dk_at dksX4_doesRest_2 22 rfl rfl)
theorem dX4_doesRest_71 : decode cX4_doesRest 71 = .ok (.goto 4, 3) := dk_167 0 4 (dk_at dksX4_doesRest_3 0 rfl rfl)
theorem dX4_doesRest_74 : decode cX4_doesRest 74 = .ok (.iconst 0, 1) := dk_3 (dk_at dksX4_doesRest_3 3 rfl rfl)
theorem dX4_doesRest_75 : decode cX4_doesRest 75 = .ok (.istore_n 3, 1) := dk_62 (dk_at dksX4_doesRest_3 4 rfl rfl)
theorem dX4_doesRest_76 : decode cX4_doesRest 76 = .ok (.iinc 4 1, 3) := dk_132 4 1 (dk_at dksX4_doesRest_3 5 rfl rfl)
theorem dX4_doesRest_79 : decode cX4_doesRest 79 = .ok (.goto (-74), 3) := dk_167 255 182 (dk_at dksX4_doesRest_3 8 rfl rfl)
theorem dX4_doesRest_82 : decode cX4_doesRest 82 = .ok (.iload_n 3, 1) := dk_29 (dk_at dksX4_doesRest_3 11 rfl rfl)
theorem dX4_doesRest_83 : decode cX4_doesRest 83 = .ok (.ireturn, 1) := dk_172 (dk_at dksX4_doesRest_3 12 rfl rfl)
abbrev cX4_waves : ByteArray := prog_23_method_119_code
def yX4_waves : MethodName := ⟨RX4, "waves", "(III)I"⟩
def dkwX4_waves_5 : List UInt8 := [21, 4, 181, 1, 235, 21, 4, 172, 132, 5, 1, 167, 255, 179, 132, 4, 1, 167, 255, 163, 2, 172]
abbrev dktX4_waves_5 : List UInt8 := dkwX4_waves_5 ++ []
def dkwX4_waves_4 : List UInt8 := [21, 6, 21, 5, 5, 21, 4, 4, 100, 21, 6, 100, 104, 122, 6, 126, 79, 132, 6, 1, 167, 255, 225, 42]
abbrev dktX4_waves_4 : List UInt8 := dkwX4_waves_4 ++ dktX4_waves_5
def dkwX4_waves_3 : List UInt8 := [182, 2, 129, 154, 0, 6, 167, 0, 49, 3, 54, 6, 21, 6, 21, 4, 162, 0, 30, 42, 180, 0, 157]
abbrev dktX4_waves_3 : List UInt8 := dkwX4_waves_3 ++ dktX4_waves_4
def dkwX4_waves_2 : List UInt8 := [3, 54, 5, 21, 5, 4, 5, 21, 4, 104, 120, 162, 0, 72, 42, 27, 28, 29, 21, 4, 21, 5]
abbrev dktX4_waves_2 : List UInt8 := dkwX4_waves_2 ++ dktX4_waves_3
def dkwX4_waves_1 : List UInt8 := [153, 0, 11, 42, 27, 182, 1, 245, 154, 0, 6, 16, 254, 172, 3, 54, 4, 21, 4, 16, 6, 163, 0, 92]
abbrev dktX4_waves_1 : List UInt8 := dkwX4_waves_1 ++ dktX4_waves_2
def dkwX4_waves_0 : List UInt8 := [42, 3, 181, 1, 235, 42, 182, 2, 54, 42, 27, 182, 2, 48, 153, 0, 20, 42, 28, 29, 182, 2, 14]
abbrev dktX4_waves_0 : List UInt8 := dkwX4_waves_0 ++ dktX4_waves_1
theorem dksX4_waves_0 : cX4_waves.data.toList.drop 0 = dktX4_waves_0 := by decide +kernel
theorem dksX4_waves_1 : cX4_waves.data.toList.drop 23 = dktX4_waves_1 := dk_seg dksX4_waves_0 23 rfl rfl
theorem dksX4_waves_2 : cX4_waves.data.toList.drop 47 = dktX4_waves_2 := dk_seg dksX4_waves_1 24 rfl rfl
theorem dksX4_waves_3 : cX4_waves.data.toList.drop 69 = dktX4_waves_3 := dk_seg dksX4_waves_2 22 rfl rfl
theorem dksX4_waves_4 : cX4_waves.data.toList.drop 92 = dktX4_waves_4 := dk_seg dksX4_waves_3 23 rfl rfl
theorem dksX4_waves_5 : cX4_waves.data.toList.drop 116 = dktX4_waves_5 := dk_seg dksX4_waves_4 24 rfl rfl
theorem dX4_waves_0 : decode cX4_waves 0 = .ok (.aload_n 0, 1) := dk_42 (dk_at dksX4_waves_0 0 rfl rfl)
theorem dX4_waves_1 : decode cX4_waves 1 = .ok (.iconst 0, 1) := dk_3 (dk_at dksX4_waves_0 1 rfl rfl)
theorem dX4_waves_2 : decode cX4_waves 2 = .ok (.putfield 491, 3) := dk_181 1 235 (dk_at dksX4_waves_0 2 rfl rfl)
theorem dX4_waves_5 : decode cX4_waves 5 = .ok (.aload_n 0, 1) := dk_42 (dk_at dksX4_waves_0 5 rfl rfl)
theorem dX4_waves_6 : decode cX4_waves 6 = .ok (.invokevirtual 566, 3) := dk_182 2 54 (dk_at dksX4_waves_0 6 rfl rfl)
theorem dX4_waves_9 : decode cX4_waves 9 = .ok (.aload_n 0, 1) := dk_42 (dk_at dksX4_waves_0 9 rfl rfl)
theorem dX4_waves_10 : decode cX4_waves 10 = .ok (.iload_n 1, 1) := dk_27 (dk_at dksX4_waves_0 10 rfl rfl)
theorem dX4_waves_11 : decode cX4_waves 11 = .ok (.invokevirtual 560, 3) := dk_182 2 48 (dk_at dksX4_waves_0 11 rfl rfl)
theorem dX4_waves_14 : decode cX4_waves 14 = .ok (.ifCond .eq 20, 3) := dk_153 0 20 (dk_at dksX4_waves_0 14 rfl rfl)
theorem dX4_waves_17 : decode cX4_waves 17 = .ok (.aload_n 0, 1) := dk_42 (dk_at dksX4_waves_0 17 rfl rfl)
theorem dX4_waves_18 : decode cX4_waves 18 = .ok (.iload_n 2, 1) := dk_28 (dk_at dksX4_waves_0 18 rfl rfl)
theorem dX4_waves_19 : decode cX4_waves 19 = .ok (.iload_n 3, 1) := dk_29 (dk_at dksX4_waves_0 19 rfl rfl)
theorem dX4_waves_20 : decode cX4_waves 20 = .ok (.invokevirtual 526, 3) := dk_182 2 14 (dk_at dksX4_waves_0 20 rfl rfl)
theorem dX4_waves_23 : decode cX4_waves 23 = .ok (.ifCond .eq 11, 3) := dk_153 0 11 (dk_at dksX4_waves_1 0 rfl rfl)
theorem dX4_waves_26 : decode cX4_waves 26 = .ok (.aload_n 0, 1) := dk_42 (dk_at dksX4_waves_1 3 rfl rfl)
theorem dX4_waves_27 : decode cX4_waves 27 = .ok (.iload_n 1, 1) := dk_27 (dk_at dksX4_waves_1 4 rfl rfl)
theorem dX4_waves_28 : decode cX4_waves 28 = .ok (.invokevirtual 501, 3) := dk_182 1 245 (dk_at dksX4_waves_1 5 rfl rfl)
theorem dX4_waves_31 : decode cX4_waves 31 = .ok (.ifCond .ne 6, 3) := dk_154 0 6 (dk_at dksX4_waves_1 8 rfl rfl)
theorem dX4_waves_34 : decode cX4_waves 34 = .ok (.bipush (-2), 2) := dk_16 254 (dk_at dksX4_waves_1 11 rfl rfl)
theorem dX4_waves_36 : decode cX4_waves 36 = .ok (.ireturn, 1) := dk_172 (dk_at dksX4_waves_1 13 rfl rfl)
theorem dX4_waves_37 : decode cX4_waves 37 = .ok (.iconst 0, 1) := dk_3 (dk_at dksX4_waves_1 14 rfl rfl)
theorem dX4_waves_38 : decode cX4_waves 38 = .ok (.istore 4, 2) := dk_54 4 (dk_at dksX4_waves_1 15 rfl rfl)
theorem dX4_waves_40 : decode cX4_waves 40 = .ok (.iload 4, 2) := dk_21 4 (dk_at dksX4_waves_1 17 rfl rfl)
theorem dX4_waves_42 : decode cX4_waves 42 = .ok (.bipush 6, 2) := dk_16 6 (dk_at dksX4_waves_1 19 rfl rfl)
theorem dX4_waves_44 : decode cX4_waves 44 = .ok (.if_icmp .gt 92, 3) := dk_163 0 92 (dk_at dksX4_waves_1 21 rfl rfl)
theorem dX4_waves_47 : decode cX4_waves 47 = .ok (.iconst 0, 1) := dk_3 (dk_at dksX4_waves_2 0 rfl rfl)
theorem dX4_waves_48 : decode cX4_waves 48 = .ok (.istore 5, 2) := dk_54 5 (dk_at dksX4_waves_2 1 rfl rfl)
theorem dX4_waves_50 : decode cX4_waves 50 = .ok (.iload 5, 2) := dk_21 5 (dk_at dksX4_waves_2 3 rfl rfl)
theorem dX4_waves_52 : decode cX4_waves 52 = .ok (.iconst 1, 1) := dk_4 (dk_at dksX4_waves_2 5 rfl rfl)
theorem dX4_waves_53 : decode cX4_waves 53 = .ok (.iconst 2, 1) := dk_5 (dk_at dksX4_waves_2 6 rfl rfl)
theorem dX4_waves_54 : decode cX4_waves 54 = .ok (.iload 4, 2) := dk_21 4 (dk_at dksX4_waves_2 7 rfl rfl)
theorem dX4_waves_56 : decode cX4_waves 56 = .ok (.imul, 1) := dk_104 (dk_at dksX4_waves_2 9 rfl rfl)
theorem dX4_waves_57 : decode cX4_waves 57 = .ok (.ishl, 1) := dk_120 (dk_at dksX4_waves_2 10 rfl rfl)
theorem dX4_waves_58 : decode cX4_waves 58 = .ok (.if_icmp .ge 72, 3) := dk_162 0 72 (dk_at dksX4_waves_2 11 rfl rfl)
theorem dX4_waves_61 : decode cX4_waves 61 = .ok (.aload_n 0, 1) := dk_42 (dk_at dksX4_waves_2 14 rfl rfl)
theorem dX4_waves_62 : decode cX4_waves 62 = .ok (.iload_n 1, 1) := dk_27 (dk_at dksX4_waves_2 15 rfl rfl)
theorem dX4_waves_63 : decode cX4_waves 63 = .ok (.iload_n 2, 1) := dk_28 (dk_at dksX4_waves_2 16 rfl rfl)
theorem dX4_waves_64 : decode cX4_waves 64 = .ok (.iload_n 3, 1) := dk_29 (dk_at dksX4_waves_2 17 rfl rfl)
theorem dX4_waves_65 : decode cX4_waves 65 = .ok (.iload 4, 2) := dk_21 4 (dk_at dksX4_waves_2 18 rfl rfl)
theorem dX4_waves_67 : decode cX4_waves 67 = .ok (.iload 5, 2) := dk_21 5 (dk_at dksX4_waves_2 20 rfl rfl)
theorem dX4_waves_69 : decode cX4_waves 69 = .ok (.invokevirtual 641, 3) := dk_182 2 129 (dk_at dksX4_waves_3 0 rfl rfl)
theorem dX4_waves_72 : decode cX4_waves 72 = .ok (.ifCond .ne 6, 3) := dk_154 0 6 (dk_at dksX4_waves_3 3 rfl rfl)
theorem dX4_waves_75 : decode cX4_waves 75 = .ok (.goto 49, 3) := dk_167 0 49 (dk_at dksX4_waves_3 6 rfl rfl)
theorem dX4_waves_78 : decode cX4_waves 78 = .ok (.iconst 0, 1) := dk_3 (dk_at dksX4_waves_3 9 rfl rfl)
theorem dX4_waves_79 : decode cX4_waves 79 = .ok (.istore 6, 2) := dk_54 6 (dk_at dksX4_waves_3 10 rfl rfl)
theorem dX4_waves_81 : decode cX4_waves 81 = .ok (.iload 6, 2) := dk_21 6 (dk_at dksX4_waves_3 12 rfl rfl)
theorem dX4_waves_83 : decode cX4_waves 83 = .ok (.iload 4, 2) := dk_21 4 (dk_at dksX4_waves_3 14 rfl rfl)
theorem dX4_waves_85 : decode cX4_waves 85 = .ok (.if_icmp .ge 30, 3) := dk_162 0 30 (dk_at dksX4_waves_3 16 rfl rfl)
theorem dX4_waves_88 : decode cX4_waves 88 = .ok (.aload_n 0, 1) := dk_42 (dk_at dksX4_waves_3 19 rfl rfl)
theorem dX4_waves_89 : decode cX4_waves 89 = .ok (.getfield 157, 3) := dk_180 0 157 (dk_at dksX4_waves_3 20 rfl rfl)
theorem dX4_waves_92 : decode cX4_waves 92 = .ok (.iload 6, 2) := dk_21 6 (dk_at dksX4_waves_4 0 rfl rfl)
theorem dX4_waves_94 : decode cX4_waves 94 = .ok (.iload 5, 2) := dk_21 5 (dk_at dksX4_waves_4 2 rfl rfl)
theorem dX4_waves_96 : decode cX4_waves 96 = .ok (.iconst 2, 1) := dk_5 (dk_at dksX4_waves_4 4 rfl rfl)
theorem dX4_waves_97 : decode cX4_waves 97 = .ok (.iload 4, 2) := dk_21 4 (dk_at dksX4_waves_4 5 rfl rfl)
theorem dX4_waves_99 : decode cX4_waves 99 = .ok (.iconst 1, 1) := dk_4 (dk_at dksX4_waves_4 7 rfl rfl)
theorem dX4_waves_100 : decode cX4_waves 100 = .ok (.isub, 1) := dk_100 (dk_at dksX4_waves_4 8 rfl rfl)
theorem dX4_waves_101 : decode cX4_waves 101 = .ok (.iload 6, 2) := dk_21 6 (dk_at dksX4_waves_4 9 rfl rfl)
theorem dX4_waves_103 : decode cX4_waves 103 = .ok (.isub, 1) := dk_100 (dk_at dksX4_waves_4 11 rfl rfl)
theorem dX4_waves_104 : decode cX4_waves 104 = .ok (.imul, 1) := dk_104 (dk_at dksX4_waves_4 12 rfl rfl)
theorem dX4_waves_105 : decode cX4_waves 105 = .ok (.ishr, 1) := dk_122 (dk_at dksX4_waves_4 13 rfl rfl)
theorem dX4_waves_106 : decode cX4_waves 106 = .ok (.iconst 3, 1) := dk_6 (dk_at dksX4_waves_4 14 rfl rfl)
theorem dX4_waves_107 : decode cX4_waves 107 = .ok (.iand, 1) := dk_126 (dk_at dksX4_waves_4 15 rfl rfl)
theorem dX4_waves_108 : decode cX4_waves 108 = .ok (.iastore, 1) := dk_79 (dk_at dksX4_waves_4 16 rfl rfl)
theorem dX4_waves_109 : decode cX4_waves 109 = .ok (.iinc 6 1, 3) := dk_132 6 1 (dk_at dksX4_waves_4 17 rfl rfl)
theorem dX4_waves_112 : decode cX4_waves 112 = .ok (.goto (-31), 3) := dk_167 255 225 (dk_at dksX4_waves_4 20 rfl rfl)
theorem dX4_waves_115 : decode cX4_waves 115 = .ok (.aload_n 0, 1) := dk_42 (dk_at dksX4_waves_4 23 rfl rfl)
theorem dX4_waves_116 : decode cX4_waves 116 = .ok (.iload 4, 2) := dk_21 4 (dk_at dksX4_waves_5 0 rfl rfl)
theorem dX4_waves_118 : decode cX4_waves 118 = .ok (.putfield 491, 3) := dk_181 1 235 (dk_at dksX4_waves_5 2 rfl rfl)
theorem dX4_waves_121 : decode cX4_waves 121 = .ok (.iload 4, 2) := dk_21 4 (dk_at dksX4_waves_5 5 rfl rfl)
theorem dX4_waves_123 : decode cX4_waves 123 = .ok (.ireturn, 1) := dk_172 (dk_at dksX4_waves_5 7 rfl rfl)
theorem dX4_waves_124 : decode cX4_waves 124 = .ok (.iinc 5 1, 3) := dk_132 5 1 (dk_at dksX4_waves_5 8 rfl rfl)
theorem dX4_waves_127 : decode cX4_waves 127 = .ok (.goto (-77), 3) := dk_167 255 179 (dk_at dksX4_waves_5 11 rfl rfl)
theorem dX4_waves_130 : decode cX4_waves 130 = .ok (.iinc 4 1, 3) := dk_132 4 1 (dk_at dksX4_waves_5 14 rfl rfl)
theorem dX4_waves_133 : decode cX4_waves 133 = .ok (.goto (-93), 3) := dk_167 255 163 (dk_at dksX4_waves_5 17 rfl rfl)
theorem dX4_waves_136 : decode cX4_waves 136 = .ok (.iconst (-1), 1) := dk_2 (dk_at dksX4_waves_5 20 rfl rfl)
theorem dX4_waves_137 : decode cX4_waves 137 = .ok (.ireturn, 1) := dk_172 (dk_at dksX4_waves_5 21 rfl rfl)
abbrev cX4_comes : ByteArray := prog_23_method_118_code
def yX4_comes : MethodName := ⟨RX4, "comes", "(IIIII)Z"⟩
def dkwX4_comes_2 : List UInt8 := [180, 0, 121, 8, 27, 104, 4, 96, 46, 29, 160, 0, 7, 4, 167, 0, 4, 3, 172]
abbrev dktX4_comes_2 : List UInt8 := dkwX4_comes_2 ++ []
def dkwX4_comes_1 : List UInt8 := [126, 182, 2, 69, 87, 132, 6, 255, 167, 255, 234, 42, 180, 0, 121, 8, 27, 104, 46, 28, 160, 0, 21, 42]
abbrev dktX4_comes_1 : List UInt8 := dkwX4_comes_1 ++ dktX4_comes_2
def dkwX4_comes_0 : List UInt8 := [42, 182, 2, 54, 21, 4, 4, 100, 54, 6, 21, 6, 155, 0, 23, 42, 21, 5, 5, 21, 6, 104, 122, 6]
abbrev dktX4_comes_0 : List UInt8 := dkwX4_comes_0 ++ dktX4_comes_1
theorem dksX4_comes_0 : cX4_comes.data.toList.drop 0 = dktX4_comes_0 := by decide +kernel
theorem dksX4_comes_1 : cX4_comes.data.toList.drop 24 = dktX4_comes_1 := dk_seg dksX4_comes_0 24 rfl rfl
theorem dksX4_comes_2 : cX4_comes.data.toList.drop 48 = dktX4_comes_2 := dk_seg dksX4_comes_1 24 rfl rfl
theorem dX4_comes_0 : decode cX4_comes 0 = .ok (.aload_n 0, 1) := dk_42 (dk_at dksX4_comes_0 0 rfl rfl)
theorem dX4_comes_1 : decode cX4_comes 1 = .ok (.invokevirtual 566, 3) := dk_182 2 54 (dk_at dksX4_comes_0 1 rfl rfl)
theorem dX4_comes_4 : decode cX4_comes 4 = .ok (.iload 4, 2) := dk_21 4 (dk_at dksX4_comes_0 4 rfl rfl)
theorem dX4_comes_6 : decode cX4_comes 6 = .ok (.iconst 1, 1) := dk_4 (dk_at dksX4_comes_0 6 rfl rfl)
theorem dX4_comes_7 : decode cX4_comes 7 = .ok (.isub, 1) := dk_100 (dk_at dksX4_comes_0 7 rfl rfl)
theorem dX4_comes_8 : decode cX4_comes 8 = .ok (.istore 6, 2) := dk_54 6 (dk_at dksX4_comes_0 8 rfl rfl)
theorem dX4_comes_10 : decode cX4_comes 10 = .ok (.iload 6, 2) := dk_21 6 (dk_at dksX4_comes_0 10 rfl rfl)
theorem dX4_comes_12 : decode cX4_comes 12 = .ok (.ifCond .lt 23, 3) := dk_155 0 23 (dk_at dksX4_comes_0 12 rfl rfl)
theorem dX4_comes_15 : decode cX4_comes 15 = .ok (.aload_n 0, 1) := dk_42 (dk_at dksX4_comes_0 15 rfl rfl)
theorem dX4_comes_16 : decode cX4_comes 16 = .ok (.iload 5, 2) := dk_21 5 (dk_at dksX4_comes_0 16 rfl rfl)
theorem dX4_comes_18 : decode cX4_comes 18 = .ok (.iconst 2, 1) := dk_5 (dk_at dksX4_comes_0 18 rfl rfl)
theorem dX4_comes_19 : decode cX4_comes 19 = .ok (.iload 6, 2) := dk_21 6 (dk_at dksX4_comes_0 19 rfl rfl)
theorem dX4_comes_21 : decode cX4_comes 21 = .ok (.imul, 1) := dk_104 (dk_at dksX4_comes_0 21 rfl rfl)
theorem dX4_comes_22 : decode cX4_comes 22 = .ok (.ishr, 1) := dk_122 (dk_at dksX4_comes_0 22 rfl rfl)
theorem dX4_comes_23 : decode cX4_comes 23 = .ok (.iconst 3, 1) := dk_6 (dk_at dksX4_comes_0 23 rfl rfl)
theorem dX4_comes_24 : decode cX4_comes 24 = .ok (.iand, 1) := dk_126 (dk_at dksX4_comes_1 0 rfl rfl)
theorem dX4_comes_25 : decode cX4_comes 25 = .ok (.invokevirtual 581, 3) := dk_182 2 69 (dk_at dksX4_comes_1 1 rfl rfl)
theorem dX4_comes_28 : decode cX4_comes 28 = .ok (.pop, 1) := dk_87 (dk_at dksX4_comes_1 4 rfl rfl)
theorem dX4_comes_29 : decode cX4_comes 29 = .ok (.iinc 6 (-1), 3) := dk_132 6 255 (dk_at dksX4_comes_1 5 rfl rfl)
theorem dX4_comes_32 : decode cX4_comes 32 = .ok (.goto (-22), 3) := dk_167 255 234 (dk_at dksX4_comes_1 8 rfl rfl)
theorem dX4_comes_35 : decode cX4_comes 35 = .ok (.aload_n 0, 1) := dk_42 (dk_at dksX4_comes_1 11 rfl rfl)
theorem dX4_comes_36 : decode cX4_comes 36 = .ok (.getfield 121, 3) := dk_180 0 121 (dk_at dksX4_comes_1 12 rfl rfl)
theorem dX4_comes_39 : decode cX4_comes 39 = .ok (.iconst 5, 1) := dk_8 (dk_at dksX4_comes_1 15 rfl rfl)
theorem dX4_comes_40 : decode cX4_comes 40 = .ok (.iload_n 1, 1) := dk_27 (dk_at dksX4_comes_1 16 rfl rfl)
theorem dX4_comes_41 : decode cX4_comes 41 = .ok (.imul, 1) := dk_104 (dk_at dksX4_comes_1 17 rfl rfl)
theorem dX4_comes_42 : decode cX4_comes 42 = .ok (.iaload, 1) := dk_46 (dk_at dksX4_comes_1 18 rfl rfl)
theorem dX4_comes_43 : decode cX4_comes 43 = .ok (.iload_n 2, 1) := dk_28 (dk_at dksX4_comes_1 19 rfl rfl)
theorem dX4_comes_44 : decode cX4_comes 44 = .ok (.if_icmp .ne 21, 3) := dk_160 0 21 (dk_at dksX4_comes_1 20 rfl rfl)
theorem dX4_comes_47 : decode cX4_comes 47 = .ok (.aload_n 0, 1) := dk_42 (dk_at dksX4_comes_1 23 rfl rfl)
theorem dX4_comes_48 : decode cX4_comes 48 = .ok (.getfield 121, 3) := dk_180 0 121 (dk_at dksX4_comes_2 0 rfl rfl)
theorem dX4_comes_51 : decode cX4_comes 51 = .ok (.iconst 5, 1) := dk_8 (dk_at dksX4_comes_2 3 rfl rfl)
theorem dX4_comes_52 : decode cX4_comes 52 = .ok (.iload_n 1, 1) := dk_27 (dk_at dksX4_comes_2 4 rfl rfl)
theorem dX4_comes_53 : decode cX4_comes 53 = .ok (.imul, 1) := dk_104 (dk_at dksX4_comes_2 5 rfl rfl)
theorem dX4_comes_54 : decode cX4_comes 54 = .ok (.iconst 1, 1) := dk_4 (dk_at dksX4_comes_2 6 rfl rfl)
theorem dX4_comes_55 : decode cX4_comes 55 = .ok (.iadd, 1) := dk_96 (dk_at dksX4_comes_2 7 rfl rfl)
theorem dX4_comes_56 : decode cX4_comes 56 = .ok (.iaload, 1) := dk_46 (dk_at dksX4_comes_2 8 rfl rfl)
theorem dX4_comes_57 : decode cX4_comes 57 = .ok (.iload_n 3, 1) := dk_29 (dk_at dksX4_comes_2 9 rfl rfl)
theorem dX4_comes_58 : decode cX4_comes 58 = .ok (.if_icmp .ne 7, 3) := dk_160 0 7 (dk_at dksX4_comes_2 10 rfl rfl)
theorem dX4_comes_61 : decode cX4_comes 61 = .ok (.iconst 1, 1) := dk_4 (dk_at dksX4_comes_2 13 rfl rfl)
theorem dX4_comes_62 : decode cX4_comes 62 = .ok (.goto 4, 3) := dk_167 0 4 (dk_at dksX4_comes_2 14 rfl rfl)
theorem dX4_comes_65 : decode cX4_comes 65 = .ok (.iconst 0, 1) := dk_3 (dk_at dksX4_comes_2 17 rfl rfl)
theorem dX4_comes_66 : decode cX4_comes 66 = .ok (.ireturn, 1) := dk_172 (dk_at dksX4_comes_2 18 rfl rfl)
abbrev cX4_fill : ByteArray := prog_23_method_121_code
def yX4_fill : MethodName := ⟨RX4, "fill", "(III)I"⟩
def dkwX4_fill_7 : List UInt8 := [29, 154, 0, 8, 21, 4, 167, 0, 5, 21, 5, 172]
abbrev dktX4_fill_7 : List UInt8 := dkwX4_fill_7 ++ []
def dkwX4_fill_6 : List UInt8 := [21, 8, 21, 5, 163, 0, 6, 167, 0, 11, 21, 6, 54, 4, 21, 8, 54, 5, 132, 6, 1, 167, 255, 138]
abbrev dktX4_fill_6 : List UInt8 := dkwX4_fill_6 ++ dktX4_fill_7
def dkwX4_fill_5 : List UInt8 := [21, 8, 42, 27, 21, 9, 182, 2, 132, 96, 54, 8, 132, 9, 1, 167, 255, 188, 21, 7, 28, 163, 0, 21]
abbrev dktX4_fill_5 : List UInt8 := dkwX4_fill_5 ++ dktX4_fill_6
def dkwX4_fill_4 : List UInt8 := [153, 0, 17, 42, 180, 0, 121, 8, 21, 9, 104, 7, 96, 46, 167, 0, 6, 17, 3, 232, 96, 54, 7]
abbrev dktX4_fill_4 : List UInt8 := dkwX4_fill_4 ++ dktX4_fill_5
def dkwX4_fill_3 : List UInt8 := [162, 0, 65, 21, 6, 21, 9, 122, 4, 126, 154, 0, 6, 167, 0, 46, 21, 7, 42, 21, 9, 182, 1, 245]
abbrev dktX4_fill_3 : List UInt8 := dkwX4_fill_3 ++ dktX4_fill_4
def dkwX4_fill_2 : List UInt8 := [42, 180, 1, 211, 120, 162, 0, 113, 3, 54, 7, 3, 54, 8, 3, 54, 9, 21, 9, 42, 180, 1, 211]
abbrev dktX4_fill_2 : List UInt8 := dkwX4_fill_2 ++ dktX4_fill_3
def dkwX4_fill_1 : List UInt8 := [184, 1, 238, 154, 0, 5, 2, 172, 42, 182, 2, 54, 3, 54, 4, 3, 54, 5, 4, 54, 6, 21, 6, 4]
abbrev dktX4_fill_1 : List UInt8 := dkwX4_fill_1 ++ dktX4_fill_2
def dkwX4_fill_0 : List UInt8 := [42, 27, 182, 2, 51, 153, 0, 23, 28, 3, 17, 3, 231, 184, 1, 238, 153, 0, 12, 29, 3, 4]
abbrev dktX4_fill_0 : List UInt8 := dkwX4_fill_0 ++ dktX4_fill_1
theorem dksX4_fill_0 : cX4_fill.data.toList.drop 0 = dktX4_fill_0 := by decide +kernel
theorem dksX4_fill_1 : cX4_fill.data.toList.drop 22 = dktX4_fill_1 := dk_seg dksX4_fill_0 22 rfl rfl
theorem dksX4_fill_2 : cX4_fill.data.toList.drop 46 = dktX4_fill_2 := dk_seg dksX4_fill_1 24 rfl rfl
theorem dksX4_fill_3 : cX4_fill.data.toList.drop 69 = dktX4_fill_3 := dk_seg dksX4_fill_2 23 rfl rfl
theorem dksX4_fill_4 : cX4_fill.data.toList.drop 93 = dktX4_fill_4 := dk_seg dksX4_fill_3 24 rfl rfl
theorem dksX4_fill_5 : cX4_fill.data.toList.drop 116 = dktX4_fill_5 := dk_seg dksX4_fill_4 23 rfl rfl
theorem dksX4_fill_6 : cX4_fill.data.toList.drop 140 = dktX4_fill_6 := dk_seg dksX4_fill_5 24 rfl rfl
theorem dksX4_fill_7 : cX4_fill.data.toList.drop 164 = dktX4_fill_7 := dk_seg dksX4_fill_6 24 rfl rfl
theorem dX4_fill_0 : decode cX4_fill 0 = .ok (.aload_n 0, 1) := dk_42 (dk_at dksX4_fill_0 0 rfl rfl)
theorem dX4_fill_1 : decode cX4_fill 1 = .ok (.iload_n 1, 1) := dk_27 (dk_at dksX4_fill_0 1 rfl rfl)
theorem dX4_fill_2 : decode cX4_fill 2 = .ok (.invokevirtual 563, 3) := dk_182 2 51 (dk_at dksX4_fill_0 2 rfl rfl)
theorem dX4_fill_5 : decode cX4_fill 5 = .ok (.ifCond .eq 23, 3) := dk_153 0 23 (dk_at dksX4_fill_0 5 rfl rfl)
theorem dX4_fill_8 : decode cX4_fill 8 = .ok (.iload_n 2, 1) := dk_28 (dk_at dksX4_fill_0 8 rfl rfl)
theorem dX4_fill_9 : decode cX4_fill 9 = .ok (.iconst 0, 1) := dk_3 (dk_at dksX4_fill_0 9 rfl rfl)
theorem dX4_fill_10 : decode cX4_fill 10 = .ok (.sipush 999, 3) := dk_17 3 231 (dk_at dksX4_fill_0 10 rfl rfl)
theorem dX4_fill_13 : decode cX4_fill 13 = .ok (.invokestatic 494, 3) := dk_184 1 238 (dk_at dksX4_fill_0 13 rfl rfl)
theorem dX4_fill_16 : decode cX4_fill 16 = .ok (.ifCond .eq 12, 3) := dk_153 0 12 (dk_at dksX4_fill_0 16 rfl rfl)
theorem dX4_fill_19 : decode cX4_fill 19 = .ok (.iload_n 3, 1) := dk_29 (dk_at dksX4_fill_0 19 rfl rfl)
theorem dX4_fill_20 : decode cX4_fill 20 = .ok (.iconst 0, 1) := dk_3 (dk_at dksX4_fill_0 20 rfl rfl)
theorem dX4_fill_21 : decode cX4_fill 21 = .ok (.iconst 1, 1) := dk_4 (dk_at dksX4_fill_0 21 rfl rfl)
theorem dX4_fill_22 : decode cX4_fill 22 = .ok (.invokestatic 494, 3) := dk_184 1 238 (dk_at dksX4_fill_1 0 rfl rfl)
theorem dX4_fill_25 : decode cX4_fill 25 = .ok (.ifCond .ne 5, 3) := dk_154 0 5 (dk_at dksX4_fill_1 3 rfl rfl)
theorem dX4_fill_28 : decode cX4_fill 28 = .ok (.iconst (-1), 1) := dk_2 (dk_at dksX4_fill_1 6 rfl rfl)
theorem dX4_fill_29 : decode cX4_fill 29 = .ok (.ireturn, 1) := dk_172 (dk_at dksX4_fill_1 7 rfl rfl)
theorem dX4_fill_30 : decode cX4_fill 30 = .ok (.aload_n 0, 1) := dk_42 (dk_at dksX4_fill_1 8 rfl rfl)
theorem dX4_fill_31 : decode cX4_fill 31 = .ok (.invokevirtual 566, 3) := dk_182 2 54 (dk_at dksX4_fill_1 9 rfl rfl)
theorem dX4_fill_34 : decode cX4_fill 34 = .ok (.iconst 0, 1) := dk_3 (dk_at dksX4_fill_1 12 rfl rfl)
theorem dX4_fill_35 : decode cX4_fill 35 = .ok (.istore 4, 2) := dk_54 4 (dk_at dksX4_fill_1 13 rfl rfl)
theorem dX4_fill_37 : decode cX4_fill 37 = .ok (.iconst 0, 1) := dk_3 (dk_at dksX4_fill_1 15 rfl rfl)
theorem dX4_fill_38 : decode cX4_fill 38 = .ok (.istore 5, 2) := dk_54 5 (dk_at dksX4_fill_1 16 rfl rfl)
theorem dX4_fill_40 : decode cX4_fill 40 = .ok (.iconst 1, 1) := dk_4 (dk_at dksX4_fill_1 18 rfl rfl)
theorem dX4_fill_41 : decode cX4_fill 41 = .ok (.istore 6, 2) := dk_54 6 (dk_at dksX4_fill_1 19 rfl rfl)
theorem dX4_fill_43 : decode cX4_fill 43 = .ok (.iload 6, 2) := dk_21 6 (dk_at dksX4_fill_1 21 rfl rfl)
theorem dX4_fill_45 : decode cX4_fill 45 = .ok (.iconst 1, 1) := dk_4 (dk_at dksX4_fill_1 23 rfl rfl)
theorem dX4_fill_46 : decode cX4_fill 46 = .ok (.aload_n 0, 1) := dk_42 (dk_at dksX4_fill_2 0 rfl rfl)
theorem dX4_fill_47 : decode cX4_fill 47 = .ok (.getfield 467, 3) := dk_180 1 211 (dk_at dksX4_fill_2 1 rfl rfl)
theorem dX4_fill_50 : decode cX4_fill 50 = .ok (.ishl, 1) := dk_120 (dk_at dksX4_fill_2 4 rfl rfl)
theorem dX4_fill_51 : decode cX4_fill 51 = .ok (.if_icmp .ge 113, 3) := dk_162 0 113 (dk_at dksX4_fill_2 5 rfl rfl)
theorem dX4_fill_54 : decode cX4_fill 54 = .ok (.iconst 0, 1) := dk_3 (dk_at dksX4_fill_2 8 rfl rfl)
theorem dX4_fill_55 : decode cX4_fill 55 = .ok (.istore 7, 2) := dk_54 7 (dk_at dksX4_fill_2 9 rfl rfl)
theorem dX4_fill_57 : decode cX4_fill 57 = .ok (.iconst 0, 1) := dk_3 (dk_at dksX4_fill_2 11 rfl rfl)
theorem dX4_fill_58 : decode cX4_fill 58 = .ok (.istore 8, 2) := dk_54 8 (dk_at dksX4_fill_2 12 rfl rfl)
theorem dX4_fill_60 : decode cX4_fill 60 = .ok (.iconst 0, 1) := dk_3 (dk_at dksX4_fill_2 14 rfl rfl)
theorem dX4_fill_61 : decode cX4_fill 61 = .ok (.istore 9, 2) := dk_54 9 (dk_at dksX4_fill_2 15 rfl rfl)
theorem dX4_fill_63 : decode cX4_fill 63 = .ok (.iload 9, 2) := dk_21 9 (dk_at dksX4_fill_2 17 rfl rfl)
theorem dX4_fill_65 : decode cX4_fill 65 = .ok (.aload_n 0, 1) := dk_42 (dk_at dksX4_fill_2 19 rfl rfl)
theorem dX4_fill_66 : decode cX4_fill 66 = .ok (.getfield 467, 3) := dk_180 1 211 (dk_at dksX4_fill_2 20 rfl rfl)
theorem dX4_fill_69 : decode cX4_fill 69 = .ok (.if_icmp .ge 65, 3) := dk_162 0 65 (dk_at dksX4_fill_3 0 rfl rfl)
theorem dX4_fill_72 : decode cX4_fill 72 = .ok (.iload 6, 2) := dk_21 6 (dk_at dksX4_fill_3 3 rfl rfl)
theorem dX4_fill_74 : decode cX4_fill 74 = .ok (.iload 9, 2) := dk_21 9 (dk_at dksX4_fill_3 5 rfl rfl)
theorem dX4_fill_76 : decode cX4_fill 76 = .ok (.ishr, 1) := dk_122 (dk_at dksX4_fill_3 7 rfl rfl)
theorem dX4_fill_77 : decode cX4_fill 77 = .ok (.iconst 1, 1) := dk_4 (dk_at dksX4_fill_3 8 rfl rfl)
theorem dX4_fill_78 : decode cX4_fill 78 = .ok (.iand, 1) := dk_126 (dk_at dksX4_fill_3 9 rfl rfl)
theorem dX4_fill_79 : decode cX4_fill 79 = .ok (.ifCond .ne 6, 3) := dk_154 0 6 (dk_at dksX4_fill_3 10 rfl rfl)
theorem dX4_fill_82 : decode cX4_fill 82 = .ok (.goto 46, 3) := dk_167 0 46 (dk_at dksX4_fill_3 13 rfl rfl)
theorem dX4_fill_85 : decode cX4_fill 85 = .ok (.iload 7, 2) := dk_21 7 (dk_at dksX4_fill_3 16 rfl rfl)
theorem dX4_fill_87 : decode cX4_fill 87 = .ok (.aload_n 0, 1) := dk_42 (dk_at dksX4_fill_3 18 rfl rfl)
theorem dX4_fill_88 : decode cX4_fill 88 = .ok (.iload 9, 2) := dk_21 9 (dk_at dksX4_fill_3 19 rfl rfl)
theorem dX4_fill_90 : decode cX4_fill 90 = .ok (.invokevirtual 501, 3) := dk_182 1 245 (dk_at dksX4_fill_3 21 rfl rfl)
theorem dX4_fill_93 : decode cX4_fill 93 = .ok (.ifCond .eq 17, 3) := dk_153 0 17 (dk_at dksX4_fill_4 0 rfl rfl)
theorem dX4_fill_96 : decode cX4_fill 96 = .ok (.aload_n 0, 1) := dk_42 (dk_at dksX4_fill_4 3 rfl rfl)
theorem dX4_fill_97 : decode cX4_fill 97 = .ok (.getfield 121, 3) := dk_180 0 121 (dk_at dksX4_fill_4 4 rfl rfl)
theorem dX4_fill_100 : decode cX4_fill 100 = .ok (.iconst 5, 1) := dk_8 (dk_at dksX4_fill_4 7 rfl rfl)
theorem dX4_fill_101 : decode cX4_fill 101 = .ok (.iload 9, 2) := dk_21 9 (dk_at dksX4_fill_4 8 rfl rfl)
theorem dX4_fill_103 : decode cX4_fill 103 = .ok (.imul, 1) := dk_104 (dk_at dksX4_fill_4 10 rfl rfl)
theorem dX4_fill_104 : decode cX4_fill 104 = .ok (.iconst 4, 1) := dk_7 (dk_at dksX4_fill_4 11 rfl rfl)
theorem dX4_fill_105 : decode cX4_fill 105 = .ok (.iadd, 1) := dk_96 (dk_at dksX4_fill_4 12 rfl rfl)
theorem dX4_fill_106 : decode cX4_fill 106 = .ok (.iaload, 1) := dk_46 (dk_at dksX4_fill_4 13 rfl rfl)
theorem dX4_fill_107 : decode cX4_fill 107 = .ok (.goto 6, 3) := dk_167 0 6 (dk_at dksX4_fill_4 14 rfl rfl)
theorem dX4_fill_110 : decode cX4_fill 110 = .ok (.sipush 1000, 3) := dk_17 3 232 (dk_at dksX4_fill_4 17 rfl rfl)
theorem dX4_fill_113 : decode cX4_fill 113 = .ok (.iadd, 1) := dk_96 (dk_at dksX4_fill_4 20 rfl rfl)
theorem dX4_fill_114 : decode cX4_fill 114 = .ok (.istore 7, 2) := dk_54 7 (dk_at dksX4_fill_4 21 rfl rfl)
theorem dX4_fill_116 : decode cX4_fill 116 = .ok (.iload 8, 2) := dk_21 8 (dk_at dksX4_fill_5 0 rfl rfl)
theorem dX4_fill_118 : decode cX4_fill 118 = .ok (.aload_n 0, 1) := dk_42 (dk_at dksX4_fill_5 2 rfl rfl)
theorem dX4_fill_119 : decode cX4_fill 119 = .ok (.iload_n 1, 1) := dk_27 (dk_at dksX4_fill_5 3 rfl rfl)
theorem dX4_fill_120 : decode cX4_fill 120 = .ok (.iload 9, 2) := dk_21 9 (dk_at dksX4_fill_5 4 rfl rfl)
theorem dX4_fill_122 : decode cX4_fill 122 = .ok (.invokevirtual 644, 3) := dk_182 2 132 (dk_at dksX4_fill_5 6 rfl rfl)
theorem dX4_fill_125 : decode cX4_fill 125 = .ok (.iadd, 1) := dk_96 (dk_at dksX4_fill_5 9 rfl rfl)
theorem dX4_fill_126 : decode cX4_fill 126 = .ok (.istore 8, 2) := dk_54 8 (dk_at dksX4_fill_5 10 rfl rfl)
theorem dX4_fill_128 : decode cX4_fill 128 = .ok (.iinc 9 1, 3) := dk_132 9 1 (dk_at dksX4_fill_5 12 rfl rfl)
theorem dX4_fill_131 : decode cX4_fill 131 = .ok (.goto (-68), 3) := dk_167 255 188 (dk_at dksX4_fill_5 15 rfl rfl)
theorem dX4_fill_134 : decode cX4_fill 134 = .ok (.iload 7, 2) := dk_21 7 (dk_at dksX4_fill_5 18 rfl rfl)
theorem dX4_fill_136 : decode cX4_fill 136 = .ok (.iload_n 2, 1) := dk_28 (dk_at dksX4_fill_5 20 rfl rfl)
theorem dX4_fill_137 : decode cX4_fill 137 = .ok (.if_icmp .gt 21, 3) := dk_163 0 21 (dk_at dksX4_fill_5 21 rfl rfl)
theorem dX4_fill_140 : decode cX4_fill 140 = .ok (.iload 8, 2) := dk_21 8 (dk_at dksX4_fill_6 0 rfl rfl)
theorem dX4_fill_142 : decode cX4_fill 142 = .ok (.iload 5, 2) := dk_21 5 (dk_at dksX4_fill_6 2 rfl rfl)
theorem dX4_fill_144 : decode cX4_fill 144 = .ok (.if_icmp .gt 6, 3) := dk_163 0 6 (dk_at dksX4_fill_6 4 rfl rfl)
theorem dX4_fill_147 : decode cX4_fill 147 = .ok (.goto 11, 3) := dk_167 0 11 (dk_at dksX4_fill_6 7 rfl rfl)
theorem dX4_fill_150 : decode cX4_fill 150 = .ok (.iload 6, 2) := dk_21 6 (dk_at dksX4_fill_6 10 rfl rfl)
theorem dX4_fill_152 : decode cX4_fill 152 = .ok (.istore 4, 2) := dk_54 4 (dk_at dksX4_fill_6 12 rfl rfl)
theorem dX4_fill_154 : decode cX4_fill 154 = .ok (.iload 8, 2) := dk_21 8 (dk_at dksX4_fill_6 14 rfl rfl)
theorem dX4_fill_156 : decode cX4_fill 156 = .ok (.istore 5, 2) := dk_54 5 (dk_at dksX4_fill_6 16 rfl rfl)
theorem dX4_fill_158 : decode cX4_fill 158 = .ok (.iinc 6 1, 3) := dk_132 6 1 (dk_at dksX4_fill_6 18 rfl rfl)
theorem dX4_fill_161 : decode cX4_fill 161 = .ok (.goto (-118), 3) := dk_167 255 138 (dk_at dksX4_fill_6 21 rfl rfl)
theorem dX4_fill_164 : decode cX4_fill 164 = .ok (.iload_n 3, 1) := dk_29 (dk_at dksX4_fill_7 0 rfl rfl)
theorem dX4_fill_165 : decode cX4_fill 165 = .ok (.ifCond .ne 8, 3) := dk_154 0 8 (dk_at dksX4_fill_7 1 rfl rfl)
theorem dX4_fill_168 : decode cX4_fill 168 = .ok (.iload 4, 2) := dk_21 4 (dk_at dksX4_fill_7 4 rfl rfl)
theorem dX4_fill_170 : decode cX4_fill 170 = .ok (.goto 5, 3) := dk_167 0 5 (dk_at dksX4_fill_7 6 rfl rfl)
theorem dX4_fill_173 : decode cX4_fill 173 = .ok (.iload 5, 2) := dk_21 5 (dk_at dksX4_fill_7 9 rfl rfl)
theorem dX4_fill_175 : decode cX4_fill 175 = .ok (.ireturn, 1) := dk_172 (dk_at dksX4_fill_7 11 rfl rfl)
abbrev cX4_lasts : ByteArray := prog_23_method_120_code
def yX4_lasts : MethodName := ⟨RX4, "lasts", "(II)I"⟩
def dkwX4_lasts_0 : List UInt8 := [42, 27, 28, 3, 182, 2, 26, 62, 29, 154, 0, 9, 17, 39, 15, 167, 0, 8, 17, 3, 232, 29, 108, 172]
abbrev dktX4_lasts_0 : List UInt8 := dkwX4_lasts_0 ++ []
theorem dksX4_lasts_0 : cX4_lasts.data.toList.drop 0 = dktX4_lasts_0 := by decide +kernel
theorem dX4_lasts_0 : decode cX4_lasts 0 = .ok (.aload_n 0, 1) := dk_42 (dk_at dksX4_lasts_0 0 rfl rfl)
theorem dX4_lasts_1 : decode cX4_lasts 1 = .ok (.iload_n 1, 1) := dk_27 (dk_at dksX4_lasts_0 1 rfl rfl)
theorem dX4_lasts_2 : decode cX4_lasts 2 = .ok (.iload_n 2, 1) := dk_28 (dk_at dksX4_lasts_0 2 rfl rfl)
theorem dX4_lasts_3 : decode cX4_lasts 3 = .ok (.iconst 0, 1) := dk_3 (dk_at dksX4_lasts_0 3 rfl rfl)
theorem dX4_lasts_4 : decode cX4_lasts 4 = .ok (.invokevirtual 538, 3) := dk_182 2 26 (dk_at dksX4_lasts_0 4 rfl rfl)
theorem dX4_lasts_7 : decode cX4_lasts 7 = .ok (.istore_n 3, 1) := dk_62 (dk_at dksX4_lasts_0 7 rfl rfl)
theorem dX4_lasts_8 : decode cX4_lasts 8 = .ok (.iload_n 3, 1) := dk_29 (dk_at dksX4_lasts_0 8 rfl rfl)
theorem dX4_lasts_9 : decode cX4_lasts 9 = .ok (.ifCond .ne 9, 3) := dk_154 0 9 (dk_at dksX4_lasts_0 9 rfl rfl)
theorem dX4_lasts_12 : decode cX4_lasts 12 = .ok (.sipush 9999, 3) := dk_17 39 15 (dk_at dksX4_lasts_0 12 rfl rfl)
theorem dX4_lasts_15 : decode cX4_lasts 15 = .ok (.goto 8, 3) := dk_167 0 8 (dk_at dksX4_lasts_0 15 rfl rfl)
theorem dX4_lasts_18 : decode cX4_lasts 18 = .ok (.sipush 1000, 3) := dk_17 3 232 (dk_at dksX4_lasts_0 18 rfl rfl)
theorem dX4_lasts_21 : decode cX4_lasts 21 = .ok (.iload_n 3, 1) := dk_29 (dk_at dksX4_lasts_0 21 rfl rfl)
theorem dX4_lasts_22 : decode cX4_lasts 22 = .ok (.idiv, 1) := dk_108 (dk_at dksX4_lasts_0 22 rfl rfl)
theorem dX4_lasts_23 : decode cX4_lasts 23 = .ok (.ireturn, 1) := dk_172 (dk_at dksX4_lasts_0 23 rfl rfl)
abbrev cX4_coin : ByteArray := prog_23_method_123_code
def yX4_coin : MethodName := ⟨RX4, "coin", "(II)I"⟩
def dkwX4_coin_4 : List UInt8 := [154, 0, 15, 42, 180, 0, 94, 27, 46, 21, 4, 108, 167, 0, 7, 29, 21, 4, 108, 172]
abbrev dktX4_coin_4 : List UInt8 := dkwX4_coin_4 ++ []
def dkwX4_coin_3 : List UInt8 := [153, 0, 7, 29, 154, 0, 5, 28, 172, 42, 180, 0, 94, 27, 46, 29, 184, 2, 135, 54, 4, 28]
abbrev dktX4_coin_3 : List UInt8 := dkwX4_coin_3 ++ dktX4_coin_4
def dkwX4_coin_2 : List UInt8 := [180, 0, 94, 21, 4, 46, 167, 0, 4, 3, 96, 62, 132, 4, 1, 167, 255, 221, 42, 27, 182, 1, 245]
abbrev dktX4_coin_2 : List UInt8 := dkwX4_coin_2 ++ dktX4_coin_3
def dkwX4_coin_1 : List UInt8 := [62, 3, 54, 4, 21, 4, 42, 180, 1, 211, 162, 0, 32, 29, 42, 21, 4, 182, 1, 245, 153, 0, 13, 42]
abbrev dktX4_coin_1 : List UInt8 := dkwX4_coin_1 ++ dktX4_coin_2
def dkwX4_coin_0 : List UInt8 := [42, 27, 182, 2, 48, 153, 0, 12, 28, 3, 4, 184, 1, 238, 154, 0, 5, 2, 172, 42, 182, 2, 54, 3]
abbrev dktX4_coin_0 : List UInt8 := dkwX4_coin_0 ++ dktX4_coin_1
theorem dksX4_coin_0 : cX4_coin.data.toList.drop 0 = dktX4_coin_0 := by decide +kernel
theorem dksX4_coin_1 : cX4_coin.data.toList.drop 24 = dktX4_coin_1 := dk_seg dksX4_coin_0 24 rfl rfl
theorem dksX4_coin_2 : cX4_coin.data.toList.drop 48 = dktX4_coin_2 := dk_seg dksX4_coin_1 24 rfl rfl
theorem dksX4_coin_3 : cX4_coin.data.toList.drop 71 = dktX4_coin_3 := dk_seg dksX4_coin_2 23 rfl rfl
theorem dksX4_coin_4 : cX4_coin.data.toList.drop 93 = dktX4_coin_4 := dk_seg dksX4_coin_3 22 rfl rfl
theorem dX4_coin_0 : decode cX4_coin 0 = .ok (.aload_n 0, 1) := dk_42 (dk_at dksX4_coin_0 0 rfl rfl)
theorem dX4_coin_1 : decode cX4_coin 1 = .ok (.iload_n 1, 1) := dk_27 (dk_at dksX4_coin_0 1 rfl rfl)
theorem dX4_coin_2 : decode cX4_coin 2 = .ok (.invokevirtual 560, 3) := dk_182 2 48 (dk_at dksX4_coin_0 2 rfl rfl)
theorem dX4_coin_5 : decode cX4_coin 5 = .ok (.ifCond .eq 12, 3) := dk_153 0 12 (dk_at dksX4_coin_0 5 rfl rfl)
theorem dX4_coin_8 : decode cX4_coin 8 = .ok (.iload_n 2, 1) := dk_28 (dk_at dksX4_coin_0 8 rfl rfl)
theorem dX4_coin_9 : decode cX4_coin 9 = .ok (.iconst 0, 1) := dk_3 (dk_at dksX4_coin_0 9 rfl rfl)
theorem dX4_coin_10 : decode cX4_coin 10 = .ok (.iconst 1, 1) := dk_4 (dk_at dksX4_coin_0 10 rfl rfl)
theorem dX4_coin_11 : decode cX4_coin 11 = .ok (.invokestatic 494, 3) := dk_184 1 238 (dk_at dksX4_coin_0 11 rfl rfl)
theorem dX4_coin_14 : decode cX4_coin 14 = .ok (.ifCond .ne 5, 3) := dk_154 0 5 (dk_at dksX4_coin_0 14 rfl rfl)
theorem dX4_coin_17 : decode cX4_coin 17 = .ok (.iconst (-1), 1) := dk_2 (dk_at dksX4_coin_0 17 rfl rfl)
theorem dX4_coin_18 : decode cX4_coin 18 = .ok (.ireturn, 1) := dk_172 (dk_at dksX4_coin_0 18 rfl rfl)
theorem dX4_coin_19 : decode cX4_coin 19 = .ok (.aload_n 0, 1) := dk_42 (dk_at dksX4_coin_0 19 rfl rfl)
theorem dX4_coin_20 : decode cX4_coin 20 = .ok (.invokevirtual 566, 3) := dk_182 2 54 (dk_at dksX4_coin_0 20 rfl rfl)
theorem dX4_coin_23 : decode cX4_coin 23 = .ok (.iconst 0, 1) := dk_3 (dk_at dksX4_coin_0 23 rfl rfl)
theorem dX4_coin_24 : decode cX4_coin 24 = .ok (.istore_n 3, 1) := dk_62 (dk_at dksX4_coin_1 0 rfl rfl)
theorem dX4_coin_25 : decode cX4_coin 25 = .ok (.iconst 0, 1) := dk_3 (dk_at dksX4_coin_1 1 rfl rfl)
theorem dX4_coin_26 : decode cX4_coin 26 = .ok (.istore 4, 2) := dk_54 4 (dk_at dksX4_coin_1 2 rfl rfl)
theorem dX4_coin_28 : decode cX4_coin 28 = .ok (.iload 4, 2) := dk_21 4 (dk_at dksX4_coin_1 4 rfl rfl)
theorem dX4_coin_30 : decode cX4_coin 30 = .ok (.aload_n 0, 1) := dk_42 (dk_at dksX4_coin_1 6 rfl rfl)
theorem dX4_coin_31 : decode cX4_coin 31 = .ok (.getfield 467, 3) := dk_180 1 211 (dk_at dksX4_coin_1 7 rfl rfl)
theorem dX4_coin_34 : decode cX4_coin 34 = .ok (.if_icmp .ge 32, 3) := dk_162 0 32 (dk_at dksX4_coin_1 10 rfl rfl)
theorem dX4_coin_37 : decode cX4_coin 37 = .ok (.iload_n 3, 1) := dk_29 (dk_at dksX4_coin_1 13 rfl rfl)
theorem dX4_coin_38 : decode cX4_coin 38 = .ok (.aload_n 0, 1) := dk_42 (dk_at dksX4_coin_1 14 rfl rfl)
theorem dX4_coin_39 : decode cX4_coin 39 = .ok (.iload 4, 2) := dk_21 4 (dk_at dksX4_coin_1 15 rfl rfl)
theorem dX4_coin_41 : decode cX4_coin 41 = .ok (.invokevirtual 501, 3) := dk_182 1 245 (dk_at dksX4_coin_1 17 rfl rfl)
theorem dX4_coin_44 : decode cX4_coin 44 = .ok (.ifCond .eq 13, 3) := dk_153 0 13 (dk_at dksX4_coin_1 20 rfl rfl)
theorem dX4_coin_47 : decode cX4_coin 47 = .ok (.aload_n 0, 1) := dk_42 (dk_at dksX4_coin_1 23 rfl rfl)
theorem dX4_coin_48 : decode cX4_coin 48 = .ok (.getfield 94, 3) := dk_180 0 94 (dk_at dksX4_coin_2 0 rfl rfl)
theorem dX4_coin_51 : decode cX4_coin 51 = .ok (.iload 4, 2) := dk_21 4 (dk_at dksX4_coin_2 3 rfl rfl)
theorem dX4_coin_53 : decode cX4_coin 53 = .ok (.iaload, 1) := dk_46 (dk_at dksX4_coin_2 5 rfl rfl)
theorem dX4_coin_54 : decode cX4_coin 54 = .ok (.goto 4, 3) := dk_167 0 4 (dk_at dksX4_coin_2 6 rfl rfl)
theorem dX4_coin_57 : decode cX4_coin 57 = .ok (.iconst 0, 1) := dk_3 (dk_at dksX4_coin_2 9 rfl rfl)
theorem dX4_coin_58 : decode cX4_coin 58 = .ok (.iadd, 1) := dk_96 (dk_at dksX4_coin_2 10 rfl rfl)
theorem dX4_coin_59 : decode cX4_coin 59 = .ok (.istore_n 3, 1) := dk_62 (dk_at dksX4_coin_2 11 rfl rfl)
theorem dX4_coin_60 : decode cX4_coin 60 = .ok (.iinc 4 1, 3) := dk_132 4 1 (dk_at dksX4_coin_2 12 rfl rfl)
theorem dX4_coin_63 : decode cX4_coin 63 = .ok (.goto (-35), 3) := dk_167 255 221 (dk_at dksX4_coin_2 15 rfl rfl)
theorem dX4_coin_66 : decode cX4_coin 66 = .ok (.aload_n 0, 1) := dk_42 (dk_at dksX4_coin_2 18 rfl rfl)
theorem dX4_coin_67 : decode cX4_coin 67 = .ok (.iload_n 1, 1) := dk_27 (dk_at dksX4_coin_2 19 rfl rfl)
theorem dX4_coin_68 : decode cX4_coin 68 = .ok (.invokevirtual 501, 3) := dk_182 1 245 (dk_at dksX4_coin_2 20 rfl rfl)
theorem dX4_coin_71 : decode cX4_coin 71 = .ok (.ifCond .eq 7, 3) := dk_153 0 7 (dk_at dksX4_coin_3 0 rfl rfl)
theorem dX4_coin_74 : decode cX4_coin 74 = .ok (.iload_n 3, 1) := dk_29 (dk_at dksX4_coin_3 3 rfl rfl)
theorem dX4_coin_75 : decode cX4_coin 75 = .ok (.ifCond .ne 5, 3) := dk_154 0 5 (dk_at dksX4_coin_3 4 rfl rfl)
theorem dX4_coin_78 : decode cX4_coin 78 = .ok (.iload_n 2, 1) := dk_28 (dk_at dksX4_coin_3 7 rfl rfl)
theorem dX4_coin_79 : decode cX4_coin 79 = .ok (.ireturn, 1) := dk_172 (dk_at dksX4_coin_3 8 rfl rfl)
theorem dX4_coin_80 : decode cX4_coin 80 = .ok (.aload_n 0, 1) := dk_42 (dk_at dksX4_coin_3 9 rfl rfl)
theorem dX4_coin_81 : decode cX4_coin 81 = .ok (.getfield 94, 3) := dk_180 0 94 (dk_at dksX4_coin_3 10 rfl rfl)
theorem dX4_coin_84 : decode cX4_coin 84 = .ok (.iload_n 1, 1) := dk_27 (dk_at dksX4_coin_3 13 rfl rfl)
theorem dX4_coin_85 : decode cX4_coin 85 = .ok (.iaload, 1) := dk_46 (dk_at dksX4_coin_3 14 rfl rfl)
theorem dX4_coin_86 : decode cX4_coin 86 = .ok (.iload_n 3, 1) := dk_29 (dk_at dksX4_coin_3 15 rfl rfl)
theorem dX4_coin_87 : decode cX4_coin 87 = .ok (.invokestatic 647, 3) := dk_184 2 135 (dk_at dksX4_coin_3 16 rfl rfl)
theorem dX4_coin_90 : decode cX4_coin 90 = .ok (.istore 4, 2) := dk_54 4 (dk_at dksX4_coin_3 19 rfl rfl)
theorem dX4_coin_92 : decode cX4_coin 92 = .ok (.iload_n 2, 1) := dk_28 (dk_at dksX4_coin_3 21 rfl rfl)
theorem dX4_coin_93 : decode cX4_coin 93 = .ok (.ifCond .ne 15, 3) := dk_154 0 15 (dk_at dksX4_coin_4 0 rfl rfl)
theorem dX4_coin_96 : decode cX4_coin 96 = .ok (.aload_n 0, 1) := dk_42 (dk_at dksX4_coin_4 3 rfl rfl)
theorem dX4_coin_97 : decode cX4_coin 97 = .ok (.getfield 94, 3) := dk_180 0 94 (dk_at dksX4_coin_4 4 rfl rfl)
theorem dX4_coin_100 : decode cX4_coin 100 = .ok (.iload_n 1, 1) := dk_27 (dk_at dksX4_coin_4 7 rfl rfl)
theorem dX4_coin_101 : decode cX4_coin 101 = .ok (.iaload, 1) := dk_46 (dk_at dksX4_coin_4 8 rfl rfl)
theorem dX4_coin_102 : decode cX4_coin 102 = .ok (.iload 4, 2) := dk_21 4 (dk_at dksX4_coin_4 9 rfl rfl)
theorem dX4_coin_104 : decode cX4_coin 104 = .ok (.idiv, 1) := dk_108 (dk_at dksX4_coin_4 11 rfl rfl)
theorem dX4_coin_105 : decode cX4_coin 105 = .ok (.goto 7, 3) := dk_167 0 7 (dk_at dksX4_coin_4 12 rfl rfl)
theorem dX4_coin_108 : decode cX4_coin 108 = .ok (.iload_n 3, 1) := dk_29 (dk_at dksX4_coin_4 15 rfl rfl)
theorem dX4_coin_109 : decode cX4_coin 109 = .ok (.iload 4, 2) := dk_21 4 (dk_at dksX4_coin_4 16 rfl rfl)
theorem dX4_coin_111 : decode cX4_coin 111 = .ok (.idiv, 1) := dk_108 (dk_at dksX4_coin_4 18 rfl rfl)
theorem dX4_coin_112 : decode cX4_coin 112 = .ok (.ireturn, 1) := dk_172 (dk_at dksX4_coin_4 19 rfl rfl)
abbrev cX4_common : ByteArray := prog_23_method_122_code
def yX4_common : MethodName := ⟨RX4, "common", "(II)I"⟩
def dkwX4_common_0 : List UInt8 := [26, 61, 27, 62, 29, 158, 0, 16, 28, 29, 112, 54, 4, 29, 61, 21, 4, 62, 167, 255, 242, 28, 172]
abbrev dktX4_common_0 : List UInt8 := dkwX4_common_0 ++ []
theorem dksX4_common_0 : cX4_common.data.toList.drop 0 = dktX4_common_0 := by decide +kernel
theorem dX4_common_0 : decode cX4_common 0 = .ok (.iload_n 0, 1) := dk_26 (dk_at dksX4_common_0 0 rfl rfl)
theorem dX4_common_1 : decode cX4_common 1 = .ok (.istore_n 2, 1) := dk_61 (dk_at dksX4_common_0 1 rfl rfl)
theorem dX4_common_2 : decode cX4_common 2 = .ok (.iload_n 1, 1) := dk_27 (dk_at dksX4_common_0 2 rfl rfl)
theorem dX4_common_3 : decode cX4_common 3 = .ok (.istore_n 3, 1) := dk_62 (dk_at dksX4_common_0 3 rfl rfl)
theorem dX4_common_4 : decode cX4_common 4 = .ok (.iload_n 3, 1) := dk_29 (dk_at dksX4_common_0 4 rfl rfl)
theorem dX4_common_5 : decode cX4_common 5 = .ok (.ifCond .le 16, 3) := dk_158 0 16 (dk_at dksX4_common_0 5 rfl rfl)
theorem dX4_common_8 : decode cX4_common 8 = .ok (.iload_n 2, 1) := dk_28 (dk_at dksX4_common_0 8 rfl rfl)
theorem dX4_common_9 : decode cX4_common 9 = .ok (.iload_n 3, 1) := dk_29 (dk_at dksX4_common_0 9 rfl rfl)
theorem dX4_common_10 : decode cX4_common 10 = .ok (.irem, 1) := dk_112 (dk_at dksX4_common_0 10 rfl rfl)
theorem dX4_common_11 : decode cX4_common 11 = .ok (.istore 4, 2) := dk_54 4 (dk_at dksX4_common_0 11 rfl rfl)
theorem dX4_common_13 : decode cX4_common 13 = .ok (.iload_n 3, 1) := dk_29 (dk_at dksX4_common_0 13 rfl rfl)
theorem dX4_common_14 : decode cX4_common 14 = .ok (.istore_n 2, 1) := dk_61 (dk_at dksX4_common_0 14 rfl rfl)
theorem dX4_common_15 : decode cX4_common 15 = .ok (.iload 4, 2) := dk_21 4 (dk_at dksX4_common_0 15 rfl rfl)
theorem dX4_common_17 : decode cX4_common 17 = .ok (.istore_n 3, 1) := dk_62 (dk_at dksX4_common_0 17 rfl rfl)
theorem dX4_common_18 : decode cX4_common 18 = .ok (.goto (-14), 3) := dk_167 255 242 (dk_at dksX4_common_0 18 rfl rfl)
theorem dX4_common_21 : decode cX4_common 21 = .ok (.iload_n 2, 1) := dk_28 (dk_at dksX4_common_0 21 rfl rfl)
theorem dX4_common_22 : decode cX4_common 22 = .ok (.ireturn, 1) := dk_172 (dk_at dksX4_common_0 22 rfl rfl)
abbrev cX4_lies : ByteArray := prog_23_method_124_code
def yX4_lies : MethodName := ⟨RX4, "lies", "(I)I"⟩
def dkwX4_lies_1 : List UInt8 := [172]
abbrev dktX4_lies_1 : List UInt8 := dkwX4_lies_1 ++ []
def dkwX4_lies_0 : List UInt8 := [27, 3, 42, 180, 1, 235, 4, 100, 184, 1, 238, 153, 0, 12, 42, 180, 0, 157, 27, 46, 167, 0, 4, 2]
abbrev dktX4_lies_0 : List UInt8 := dkwX4_lies_0 ++ dktX4_lies_1
theorem dksX4_lies_0 : cX4_lies.data.toList.drop 0 = dktX4_lies_0 := by decide +kernel
theorem dksX4_lies_1 : cX4_lies.data.toList.drop 24 = dktX4_lies_1 := dk_seg dksX4_lies_0 24 rfl rfl
theorem dX4_lies_0 : decode cX4_lies 0 = .ok (.iload_n 1, 1) := dk_27 (dk_at dksX4_lies_0 0 rfl rfl)
theorem dX4_lies_1 : decode cX4_lies 1 = .ok (.iconst 0, 1) := dk_3 (dk_at dksX4_lies_0 1 rfl rfl)
theorem dX4_lies_2 : decode cX4_lies 2 = .ok (.aload_n 0, 1) := dk_42 (dk_at dksX4_lies_0 2 rfl rfl)
theorem dX4_lies_3 : decode cX4_lies 3 = .ok (.getfield 491, 3) := dk_180 1 235 (dk_at dksX4_lies_0 3 rfl rfl)
theorem dX4_lies_6 : decode cX4_lies 6 = .ok (.iconst 1, 1) := dk_4 (dk_at dksX4_lies_0 6 rfl rfl)
theorem dX4_lies_7 : decode cX4_lies 7 = .ok (.isub, 1) := dk_100 (dk_at dksX4_lies_0 7 rfl rfl)
theorem dX4_lies_8 : decode cX4_lies 8 = .ok (.invokestatic 494, 3) := dk_184 1 238 (dk_at dksX4_lies_0 8 rfl rfl)
theorem dX4_lies_11 : decode cX4_lies 11 = .ok (.ifCond .eq 12, 3) := dk_153 0 12 (dk_at dksX4_lies_0 11 rfl rfl)
theorem dX4_lies_14 : decode cX4_lies 14 = .ok (.aload_n 0, 1) := dk_42 (dk_at dksX4_lies_0 14 rfl rfl)
theorem dX4_lies_15 : decode cX4_lies 15 = .ok (.getfield 157, 3) := dk_180 0 157 (dk_at dksX4_lies_0 15 rfl rfl)
theorem dX4_lies_18 : decode cX4_lies 18 = .ok (.iload_n 1, 1) := dk_27 (dk_at dksX4_lies_0 18 rfl rfl)
theorem dX4_lies_19 : decode cX4_lies 19 = .ok (.iaload, 1) := dk_46 (dk_at dksX4_lies_0 19 rfl rfl)
theorem dX4_lies_20 : decode cX4_lies 20 = .ok (.goto 4, 3) := dk_167 0 4 (dk_at dksX4_lies_0 20 rfl rfl)
theorem dX4_lies_23 : decode cX4_lies 23 = .ok (.iconst (-1), 1) := dk_2 (dk_at dksX4_lies_0 23 rfl rfl)
theorem dX4_lies_24 : decode cX4_lies 24 = .ok (.ireturn, 1) := dk_172 (dk_at dksX4_lies_1 0 rfl rfl)
abbrev cX4_pick : ByteArray := prog_23_method_125_code
def yX4_pick : MethodName := ⟨RX4, "pick", "(III)I"⟩
def dkwX4_pick_5 : List UInt8 := [4, 100, 172]
abbrev dktX4_pick_5 : List UInt8 := dkwX4_pick_5 ++ []
def dkwX4_pick_4 : List UInt8 := [42, 180, 0, 175, 42, 180, 1, 232, 2, 79, 42, 89, 180, 1, 232, 4, 96, 181, 1, 232, 42, 180, 1, 232]
abbrev dktX4_pick_4 : List UInt8 := dkwX4_pick_4 ++ dktX4_pick_5
def dkwX4_pick_3 : List UInt8 := [79, 42, 180, 0, 169, 42, 180, 1, 232, 29, 79, 42, 180, 0, 172, 42, 180, 1, 232, 42, 180, 2, 138, 79]
abbrev dktX4_pick_3 : List UInt8 := dkwX4_pick_3 ++ dktX4_pick_4
def dkwX4_pick_2 : List UInt8 := [160, 0, 5, 2, 172, 42, 180, 0, 163, 42, 180, 1, 232, 27, 79, 42, 180, 0, 166, 42, 180, 1, 232, 28]
abbrev dktX4_pick_2 : List UInt8 := dkwX4_pick_2 ++ dktX4_pick_3
def dkwX4_pick_1 : List UInt8 := [42, 29, 182, 2, 48, 153, 0, 20, 28, 29, 122, 4, 126, 153, 0, 12, 42, 180, 1, 232, 16, 30]
abbrev dktX4_pick_1 : List UInt8 := dkwX4_pick_1 ++ dktX4_pick_2
def dkwX4_pick_0 : List UInt8 := [42, 27, 182, 2, 51, 153, 0, 44, 28, 4, 4, 42, 180, 1, 211, 120, 4, 100, 184, 1, 238, 153, 0, 28]
abbrev dktX4_pick_0 : List UInt8 := dkwX4_pick_0 ++ dktX4_pick_1
theorem dksX4_pick_0 : cX4_pick.data.toList.drop 0 = dktX4_pick_0 := by decide +kernel
theorem dksX4_pick_1 : cX4_pick.data.toList.drop 24 = dktX4_pick_1 := dk_seg dksX4_pick_0 24 rfl rfl
theorem dksX4_pick_2 : cX4_pick.data.toList.drop 46 = dktX4_pick_2 := dk_seg dksX4_pick_1 22 rfl rfl
theorem dksX4_pick_3 : cX4_pick.data.toList.drop 70 = dktX4_pick_3 := dk_seg dksX4_pick_2 24 rfl rfl
theorem dksX4_pick_4 : cX4_pick.data.toList.drop 94 = dktX4_pick_4 := dk_seg dksX4_pick_3 24 rfl rfl
theorem dksX4_pick_5 : cX4_pick.data.toList.drop 118 = dktX4_pick_5 := dk_seg dksX4_pick_4 24 rfl rfl
theorem dX4_pick_0 : decode cX4_pick 0 = .ok (.aload_n 0, 1) := dk_42 (dk_at dksX4_pick_0 0 rfl rfl)
theorem dX4_pick_1 : decode cX4_pick 1 = .ok (.iload_n 1, 1) := dk_27 (dk_at dksX4_pick_0 1 rfl rfl)
theorem dX4_pick_2 : decode cX4_pick 2 = .ok (.invokevirtual 563, 3) := dk_182 2 51 (dk_at dksX4_pick_0 2 rfl rfl)
theorem dX4_pick_5 : decode cX4_pick 5 = .ok (.ifCond .eq 44, 3) := dk_153 0 44 (dk_at dksX4_pick_0 5 rfl rfl)
theorem dX4_pick_8 : decode cX4_pick 8 = .ok (.iload_n 2, 1) := dk_28 (dk_at dksX4_pick_0 8 rfl rfl)
theorem dX4_pick_9 : decode cX4_pick 9 = .ok (.iconst 1, 1) := dk_4 (dk_at dksX4_pick_0 9 rfl rfl)
theorem dX4_pick_10 : decode cX4_pick 10 = .ok (.iconst 1, 1) := dk_4 (dk_at dksX4_pick_0 10 rfl rfl)
theorem dX4_pick_11 : decode cX4_pick 11 = .ok (.aload_n 0, 1) := dk_42 (dk_at dksX4_pick_0 11 rfl rfl)
theorem dX4_pick_12 : decode cX4_pick 12 = .ok (.getfield 467, 3) := dk_180 1 211 (dk_at dksX4_pick_0 12 rfl rfl)
theorem dX4_pick_15 : decode cX4_pick 15 = .ok (.ishl, 1) := dk_120 (dk_at dksX4_pick_0 15 rfl rfl)
theorem dX4_pick_16 : decode cX4_pick 16 = .ok (.iconst 1, 1) := dk_4 (dk_at dksX4_pick_0 16 rfl rfl)
theorem dX4_pick_17 : decode cX4_pick 17 = .ok (.isub, 1) := dk_100 (dk_at dksX4_pick_0 17 rfl rfl)
theorem dX4_pick_18 : decode cX4_pick 18 = .ok (.invokestatic 494, 3) := dk_184 1 238 (dk_at dksX4_pick_0 18 rfl rfl)
theorem dX4_pick_21 : decode cX4_pick 21 = .ok (.ifCond .eq 28, 3) := dk_153 0 28 (dk_at dksX4_pick_0 21 rfl rfl)
theorem dX4_pick_24 : decode cX4_pick 24 = .ok (.aload_n 0, 1) := dk_42 (dk_at dksX4_pick_1 0 rfl rfl)
theorem dX4_pick_25 : decode cX4_pick 25 = .ok (.iload_n 3, 1) := dk_29 (dk_at dksX4_pick_1 1 rfl rfl)
theorem dX4_pick_26 : decode cX4_pick 26 = .ok (.invokevirtual 560, 3) := dk_182 2 48 (dk_at dksX4_pick_1 2 rfl rfl)
theorem dX4_pick_29 : decode cX4_pick 29 = .ok (.ifCond .eq 20, 3) := dk_153 0 20 (dk_at dksX4_pick_1 5 rfl rfl)
theorem dX4_pick_32 : decode cX4_pick 32 = .ok (.iload_n 2, 1) := dk_28 (dk_at dksX4_pick_1 8 rfl rfl)
theorem dX4_pick_33 : decode cX4_pick 33 = .ok (.iload_n 3, 1) := dk_29 (dk_at dksX4_pick_1 9 rfl rfl)
theorem dX4_pick_34 : decode cX4_pick 34 = .ok (.ishr, 1) := dk_122 (dk_at dksX4_pick_1 10 rfl rfl)
theorem dX4_pick_35 : decode cX4_pick 35 = .ok (.iconst 1, 1) := dk_4 (dk_at dksX4_pick_1 11 rfl rfl)
theorem dX4_pick_36 : decode cX4_pick 36 = .ok (.iand, 1) := dk_126 (dk_at dksX4_pick_1 12 rfl rfl)
theorem dX4_pick_37 : decode cX4_pick 37 = .ok (.ifCond .eq 12, 3) := dk_153 0 12 (dk_at dksX4_pick_1 13 rfl rfl)
theorem dX4_pick_40 : decode cX4_pick 40 = .ok (.aload_n 0, 1) := dk_42 (dk_at dksX4_pick_1 16 rfl rfl)
theorem dX4_pick_41 : decode cX4_pick 41 = .ok (.getfield 488, 3) := dk_180 1 232 (dk_at dksX4_pick_1 17 rfl rfl)
theorem dX4_pick_44 : decode cX4_pick 44 = .ok (.bipush 30, 2) := dk_16 30 (dk_at dksX4_pick_1 20 rfl rfl)
theorem dX4_pick_46 : decode cX4_pick 46 = .ok (.if_icmp .ne 5, 3) := dk_160 0 5 (dk_at dksX4_pick_2 0 rfl rfl)
theorem dX4_pick_49 : decode cX4_pick 49 = .ok (.iconst (-1), 1) := dk_2 (dk_at dksX4_pick_2 3 rfl rfl)
theorem dX4_pick_50 : decode cX4_pick 50 = .ok (.ireturn, 1) := dk_172 (dk_at dksX4_pick_2 4 rfl rfl)
theorem dX4_pick_51 : decode cX4_pick 51 = .ok (.aload_n 0, 1) := dk_42 (dk_at dksX4_pick_2 5 rfl rfl)
theorem dX4_pick_52 : decode cX4_pick 52 = .ok (.getfield 163, 3) := dk_180 0 163 (dk_at dksX4_pick_2 6 rfl rfl)
theorem dX4_pick_55 : decode cX4_pick 55 = .ok (.aload_n 0, 1) := dk_42 (dk_at dksX4_pick_2 9 rfl rfl)
theorem dX4_pick_56 : decode cX4_pick 56 = .ok (.getfield 488, 3) := dk_180 1 232 (dk_at dksX4_pick_2 10 rfl rfl)
theorem dX4_pick_59 : decode cX4_pick 59 = .ok (.iload_n 1, 1) := dk_27 (dk_at dksX4_pick_2 13 rfl rfl)
theorem dX4_pick_60 : decode cX4_pick 60 = .ok (.iastore, 1) := dk_79 (dk_at dksX4_pick_2 14 rfl rfl)
theorem dX4_pick_61 : decode cX4_pick 61 = .ok (.aload_n 0, 1) := dk_42 (dk_at dksX4_pick_2 15 rfl rfl)
theorem dX4_pick_62 : decode cX4_pick 62 = .ok (.getfield 166, 3) := dk_180 0 166 (dk_at dksX4_pick_2 16 rfl rfl)
theorem dX4_pick_65 : decode cX4_pick 65 = .ok (.aload_n 0, 1) := dk_42 (dk_at dksX4_pick_2 19 rfl rfl)
theorem dX4_pick_66 : decode cX4_pick 66 = .ok (.getfield 488, 3) := dk_180 1 232 (dk_at dksX4_pick_2 20 rfl rfl)
theorem dX4_pick_69 : decode cX4_pick 69 = .ok (.iload_n 2, 1) := dk_28 (dk_at dksX4_pick_2 23 rfl rfl)
theorem dX4_pick_70 : decode cX4_pick 70 = .ok (.iastore, 1) := dk_79 (dk_at dksX4_pick_3 0 rfl rfl)
theorem dX4_pick_71 : decode cX4_pick 71 = .ok (.aload_n 0, 1) := dk_42 (dk_at dksX4_pick_3 1 rfl rfl)
theorem dX4_pick_72 : decode cX4_pick 72 = .ok (.getfield 169, 3) := dk_180 0 169 (dk_at dksX4_pick_3 2 rfl rfl)
theorem dX4_pick_75 : decode cX4_pick 75 = .ok (.aload_n 0, 1) := dk_42 (dk_at dksX4_pick_3 5 rfl rfl)
theorem dX4_pick_76 : decode cX4_pick 76 = .ok (.getfield 488, 3) := dk_180 1 232 (dk_at dksX4_pick_3 6 rfl rfl)
theorem dX4_pick_79 : decode cX4_pick 79 = .ok (.iload_n 3, 1) := dk_29 (dk_at dksX4_pick_3 9 rfl rfl)
theorem dX4_pick_80 : decode cX4_pick 80 = .ok (.iastore, 1) := dk_79 (dk_at dksX4_pick_3 10 rfl rfl)
theorem dX4_pick_81 : decode cX4_pick 81 = .ok (.aload_n 0, 1) := dk_42 (dk_at dksX4_pick_3 11 rfl rfl)
theorem dX4_pick_82 : decode cX4_pick 82 = .ok (.getfield 172, 3) := dk_180 0 172 (dk_at dksX4_pick_3 12 rfl rfl)
theorem dX4_pick_85 : decode cX4_pick 85 = .ok (.aload_n 0, 1) := dk_42 (dk_at dksX4_pick_3 15 rfl rfl)
theorem dX4_pick_86 : decode cX4_pick 86 = .ok (.getfield 488, 3) := dk_180 1 232 (dk_at dksX4_pick_3 16 rfl rfl)
theorem dX4_pick_89 : decode cX4_pick 89 = .ok (.aload_n 0, 1) := dk_42 (dk_at dksX4_pick_3 19 rfl rfl)
theorem dX4_pick_90 : decode cX4_pick 90 = .ok (.getfield 650, 3) := dk_180 2 138 (dk_at dksX4_pick_3 20 rfl rfl)
theorem dX4_pick_93 : decode cX4_pick 93 = .ok (.iastore, 1) := dk_79 (dk_at dksX4_pick_3 23 rfl rfl)
theorem dX4_pick_94 : decode cX4_pick 94 = .ok (.aload_n 0, 1) := dk_42 (dk_at dksX4_pick_4 0 rfl rfl)
theorem dX4_pick_95 : decode cX4_pick 95 = .ok (.getfield 175, 3) := dk_180 0 175 (dk_at dksX4_pick_4 1 rfl rfl)
theorem dX4_pick_98 : decode cX4_pick 98 = .ok (.aload_n 0, 1) := dk_42 (dk_at dksX4_pick_4 4 rfl rfl)
theorem dX4_pick_99 : decode cX4_pick 99 = .ok (.getfield 488, 3) := dk_180 1 232 (dk_at dksX4_pick_4 5 rfl rfl)
theorem dX4_pick_102 : decode cX4_pick 102 = .ok (.iconst (-1), 1) := dk_2 (dk_at dksX4_pick_4 8 rfl rfl)
theorem dX4_pick_103 : decode cX4_pick 103 = .ok (.iastore, 1) := dk_79 (dk_at dksX4_pick_4 9 rfl rfl)
theorem dX4_pick_104 : decode cX4_pick 104 = .ok (.aload_n 0, 1) := dk_42 (dk_at dksX4_pick_4 10 rfl rfl)
theorem dX4_pick_105 : decode cX4_pick 105 = .ok (.dup, 1) := dk_89 (dk_at dksX4_pick_4 11 rfl rfl)
theorem dX4_pick_106 : decode cX4_pick 106 = .ok (.getfield 488, 3) := dk_180 1 232 (dk_at dksX4_pick_4 12 rfl rfl)
theorem dX4_pick_109 : decode cX4_pick 109 = .ok (.iconst 1, 1) := dk_4 (dk_at dksX4_pick_4 15 rfl rfl)
theorem dX4_pick_110 : decode cX4_pick 110 = .ok (.iadd, 1) := dk_96 (dk_at dksX4_pick_4 16 rfl rfl)
theorem dX4_pick_111 : decode cX4_pick 111 = .ok (.putfield 488, 3) := dk_181 1 232 (dk_at dksX4_pick_4 17 rfl rfl)
theorem dX4_pick_114 : decode cX4_pick 114 = .ok (.aload_n 0, 1) := dk_42 (dk_at dksX4_pick_4 20 rfl rfl)
theorem dX4_pick_115 : decode cX4_pick 115 = .ok (.getfield 488, 3) := dk_180 1 232 (dk_at dksX4_pick_4 21 rfl rfl)
theorem dX4_pick_118 : decode cX4_pick 118 = .ok (.iconst 1, 1) := dk_4 (dk_at dksX4_pick_5 0 rfl rfl)
theorem dX4_pick_119 : decode cX4_pick 119 = .ok (.isub, 1) := dk_100 (dk_at dksX4_pick_5 1 rfl rfl)
theorem dX4_pick_120 : decode cX4_pick 120 = .ok (.ireturn, 1) := dk_172 (dk_at dksX4_pick_5 2 rfl rfl)
abbrev cX4_untell : ByteArray := prog_23_method_126_code
def yX4_untell : MethodName := ⟨RX4, "untell", "(I)Z"⟩
def dkwX4_untell_1 : List UInt8 := [172, 42, 180, 0, 175, 27, 42, 180, 2, 138, 79, 4, 172]
abbrev dktX4_untell_1 : List UInt8 := dkwX4_untell_1 ++ []
def dkwX4_untell_0 : List UInt8 := [27, 3, 42, 180, 1, 232, 4, 100, 184, 1, 238, 153, 0, 12, 42, 180, 0, 175, 27, 46, 155, 0, 5, 3]
abbrev dktX4_untell_0 : List UInt8 := dkwX4_untell_0 ++ dktX4_untell_1
theorem dksX4_untell_0 : cX4_untell.data.toList.drop 0 = dktX4_untell_0 := by decide +kernel
theorem dksX4_untell_1 : cX4_untell.data.toList.drop 24 = dktX4_untell_1 := dk_seg dksX4_untell_0 24 rfl rfl
theorem dX4_untell_0 : decode cX4_untell 0 = .ok (.iload_n 1, 1) := dk_27 (dk_at dksX4_untell_0 0 rfl rfl)
theorem dX4_untell_1 : decode cX4_untell 1 = .ok (.iconst 0, 1) := dk_3 (dk_at dksX4_untell_0 1 rfl rfl)
theorem dX4_untell_2 : decode cX4_untell 2 = .ok (.aload_n 0, 1) := dk_42 (dk_at dksX4_untell_0 2 rfl rfl)
theorem dX4_untell_3 : decode cX4_untell 3 = .ok (.getfield 488, 3) := dk_180 1 232 (dk_at dksX4_untell_0 3 rfl rfl)
theorem dX4_untell_6 : decode cX4_untell 6 = .ok (.iconst 1, 1) := dk_4 (dk_at dksX4_untell_0 6 rfl rfl)
theorem dX4_untell_7 : decode cX4_untell 7 = .ok (.isub, 1) := dk_100 (dk_at dksX4_untell_0 7 rfl rfl)
theorem dX4_untell_8 : decode cX4_untell 8 = .ok (.invokestatic 494, 3) := dk_184 1 238 (dk_at dksX4_untell_0 8 rfl rfl)
theorem dX4_untell_11 : decode cX4_untell 11 = .ok (.ifCond .eq 12, 3) := dk_153 0 12 (dk_at dksX4_untell_0 11 rfl rfl)
theorem dX4_untell_14 : decode cX4_untell 14 = .ok (.aload_n 0, 1) := dk_42 (dk_at dksX4_untell_0 14 rfl rfl)
theorem dX4_untell_15 : decode cX4_untell 15 = .ok (.getfield 175, 3) := dk_180 0 175 (dk_at dksX4_untell_0 15 rfl rfl)
theorem dX4_untell_18 : decode cX4_untell 18 = .ok (.iload_n 1, 1) := dk_27 (dk_at dksX4_untell_0 18 rfl rfl)
theorem dX4_untell_19 : decode cX4_untell 19 = .ok (.iaload, 1) := dk_46 (dk_at dksX4_untell_0 19 rfl rfl)
theorem dX4_untell_20 : decode cX4_untell 20 = .ok (.ifCond .lt 5, 3) := dk_155 0 5 (dk_at dksX4_untell_0 20 rfl rfl)
theorem dX4_untell_23 : decode cX4_untell 23 = .ok (.iconst 0, 1) := dk_3 (dk_at dksX4_untell_0 23 rfl rfl)
theorem dX4_untell_24 : decode cX4_untell 24 = .ok (.ireturn, 1) := dk_172 (dk_at dksX4_untell_1 0 rfl rfl)
theorem dX4_untell_25 : decode cX4_untell 25 = .ok (.aload_n 0, 1) := dk_42 (dk_at dksX4_untell_1 1 rfl rfl)
theorem dX4_untell_26 : decode cX4_untell 26 = .ok (.getfield 175, 3) := dk_180 0 175 (dk_at dksX4_untell_1 2 rfl rfl)
theorem dX4_untell_29 : decode cX4_untell 29 = .ok (.iload_n 1, 1) := dk_27 (dk_at dksX4_untell_1 5 rfl rfl)
theorem dX4_untell_30 : decode cX4_untell 30 = .ok (.aload_n 0, 1) := dk_42 (dk_at dksX4_untell_1 6 rfl rfl)
theorem dX4_untell_31 : decode cX4_untell 31 = .ok (.getfield 650, 3) := dk_180 2 138 (dk_at dksX4_untell_1 7 rfl rfl)
theorem dX4_untell_34 : decode cX4_untell 34 = .ok (.iastore, 1) := dk_79 (dk_at dksX4_untell_1 10 rfl rfl)
theorem dX4_untell_35 : decode cX4_untell 35 = .ok (.iconst 1, 1) := dk_4 (dk_at dksX4_untell_1 11 rfl rfl)
theorem dX4_untell_36 : decode cX4_untell 36 = .ok (.ireturn, 1) := dk_172 (dk_at dksX4_untell_1 12 rfl rfl)
abbrev cX4_later : ByteArray := prog_23_method_127_code
def yX4_later : MethodName := ⟨RX4, "later", "(I)I"⟩
def dkwX4_later_1 : List UInt8 := [172, 42, 89, 180, 2, 138, 27, 96, 181, 2, 138, 42, 180, 2, 138, 172]
abbrev dktX4_later_1 : List UInt8 := dkwX4_later_1 ++ []
def dkwX4_later_0 : List UInt8 := [27, 155, 0, 22, 27, 17, 3, 232, 163, 0, 15, 42, 180, 2, 138, 27, 96, 19, 2, 141, 164, 0, 5, 2]
abbrev dktX4_later_0 : List UInt8 := dkwX4_later_0 ++ dktX4_later_1
theorem dksX4_later_0 : cX4_later.data.toList.drop 0 = dktX4_later_0 := by decide +kernel
theorem dksX4_later_1 : cX4_later.data.toList.drop 24 = dktX4_later_1 := dk_seg dksX4_later_0 24 rfl rfl
theorem dX4_later_0 : decode cX4_later 0 = .ok (.iload_n 1, 1) := dk_27 (dk_at dksX4_later_0 0 rfl rfl)
theorem dX4_later_1 : decode cX4_later 1 = .ok (.ifCond .lt 22, 3) := dk_155 0 22 (dk_at dksX4_later_0 1 rfl rfl)
theorem dX4_later_4 : decode cX4_later 4 = .ok (.iload_n 1, 1) := dk_27 (dk_at dksX4_later_0 4 rfl rfl)
theorem dX4_later_5 : decode cX4_later 5 = .ok (.sipush 1000, 3) := dk_17 3 232 (dk_at dksX4_later_0 5 rfl rfl)
theorem dX4_later_8 : decode cX4_later 8 = .ok (.if_icmp .gt 15, 3) := dk_163 0 15 (dk_at dksX4_later_0 8 rfl rfl)
theorem dX4_later_11 : decode cX4_later 11 = .ok (.aload_n 0, 1) := dk_42 (dk_at dksX4_later_0 11 rfl rfl)
theorem dX4_later_12 : decode cX4_later 12 = .ok (.getfield 650, 3) := dk_180 2 138 (dk_at dksX4_later_0 12 rfl rfl)
theorem dX4_later_15 : decode cX4_later 15 = .ok (.iload_n 1, 1) := dk_27 (dk_at dksX4_later_0 15 rfl rfl)
theorem dX4_later_16 : decode cX4_later 16 = .ok (.iadd, 1) := dk_96 (dk_at dksX4_later_0 16 rfl rfl)
theorem dX4_later_17 : decode cX4_later 17 = .ok (.ldc_w 653, 3) := dk_19 2 141 (dk_at dksX4_later_0 17 rfl rfl)
theorem dX4_later_20 : decode cX4_later 20 = .ok (.if_icmp .le 5, 3) := dk_164 0 5 (dk_at dksX4_later_0 20 rfl rfl)
theorem dX4_later_23 : decode cX4_later 23 = .ok (.iconst (-1), 1) := dk_2 (dk_at dksX4_later_0 23 rfl rfl)
theorem dX4_later_24 : decode cX4_later 24 = .ok (.ireturn, 1) := dk_172 (dk_at dksX4_later_1 0 rfl rfl)
theorem dX4_later_25 : decode cX4_later 25 = .ok (.aload_n 0, 1) := dk_42 (dk_at dksX4_later_1 1 rfl rfl)
theorem dX4_later_26 : decode cX4_later 26 = .ok (.dup, 1) := dk_89 (dk_at dksX4_later_1 2 rfl rfl)
theorem dX4_later_27 : decode cX4_later 27 = .ok (.getfield 650, 3) := dk_180 2 138 (dk_at dksX4_later_1 3 rfl rfl)
theorem dX4_later_30 : decode cX4_later 30 = .ok (.iload_n 1, 1) := dk_27 (dk_at dksX4_later_1 6 rfl rfl)
theorem dX4_later_31 : decode cX4_later 31 = .ok (.iadd, 1) := dk_96 (dk_at dksX4_later_1 7 rfl rfl)
theorem dX4_later_32 : decode cX4_later 32 = .ok (.putfield 650, 3) := dk_181 2 138 (dk_at dksX4_later_1 8 rfl rfl)
theorem dX4_later_35 : decode cX4_later 35 = .ok (.aload_n 0, 1) := dk_42 (dk_at dksX4_later_1 11 rfl rfl)
theorem dX4_later_36 : decode cX4_later 36 = .ok (.getfield 650, 3) := dk_180 2 138 (dk_at dksX4_later_1 12 rfl rfl)
theorem dX4_later_39 : decode cX4_later 39 = .ok (.ireturn, 1) := dk_172 (dk_at dksX4_later_1 15 rfl rfl)
abbrev cX4_fits : ByteArray := prog_23_method_130_code
def yX4_fits : MethodName := ⟨RX4, "fits", "(I)I"⟩
def dkwX4_fits_4 : List UInt8 := [167, 255, 170, 28, 172]
abbrev dktX4_fits_4 : List UInt8 := dkwX4_fits_4 ++ []
def dkwX4_fits_3 : List UInt8 := [132, 5, 1, 167, 255, 205, 28, 21, 4, 153, 0, 9, 4, 29, 120, 167, 0, 4, 3, 128, 61, 132, 3, 1]
abbrev dktX4_fits_3 : List UInt8 := dkwX4_fits_3 ++ dktX4_fits_4
def dkwX4_fits_2 : List UInt8 := [21, 5, 182, 2, 145, 42, 180, 0, 169, 21, 5, 46, 160, 0, 7, 4, 167, 0, 4, 3, 54, 4]
abbrev dktX4_fits_2 : List UInt8 := dkwX4_fits_2 ++ dktX4_fits_3
def dkwX4_fits_1 : List UInt8 := [42, 180, 1, 232, 162, 0, 48, 21, 4, 153, 0, 34, 42, 21, 5, 27, 182, 2, 142, 153, 0, 20, 42, 29]
abbrev dktX4_fits_1 : List UInt8 := dkwX4_fits_1 ++ dktX4_fits_2
def dkwX4_fits_0 : List UInt8 := [42, 182, 1, 220, 3, 61, 3, 62, 29, 42, 180, 1, 208, 162, 0, 84, 4, 54, 4, 3, 54, 5, 21, 5]
abbrev dktX4_fits_0 : List UInt8 := dkwX4_fits_0 ++ dktX4_fits_1
theorem dksX4_fits_0 : cX4_fits.data.toList.drop 0 = dktX4_fits_0 := by decide +kernel
theorem dksX4_fits_1 : cX4_fits.data.toList.drop 24 = dktX4_fits_1 := dk_seg dksX4_fits_0 24 rfl rfl
theorem dksX4_fits_2 : cX4_fits.data.toList.drop 48 = dktX4_fits_2 := dk_seg dksX4_fits_1 24 rfl rfl
theorem dksX4_fits_3 : cX4_fits.data.toList.drop 70 = dktX4_fits_3 := dk_seg dksX4_fits_2 22 rfl rfl
theorem dksX4_fits_4 : cX4_fits.data.toList.drop 94 = dktX4_fits_4 := dk_seg dksX4_fits_3 24 rfl rfl
theorem dX4_fits_0 : decode cX4_fits 0 = .ok (.aload_n 0, 1) := dk_42 (dk_at dksX4_fits_0 0 rfl rfl)
theorem dX4_fits_1 : decode cX4_fits 1 = .ok (.invokevirtual 476, 3) := dk_182 1 220 (dk_at dksX4_fits_0 1 rfl rfl)
theorem dX4_fits_4 : decode cX4_fits 4 = .ok (.iconst 0, 1) := dk_3 (dk_at dksX4_fits_0 4 rfl rfl)
theorem dX4_fits_5 : decode cX4_fits 5 = .ok (.istore_n 2, 1) := dk_61 (dk_at dksX4_fits_0 5 rfl rfl)
theorem dX4_fits_6 : decode cX4_fits 6 = .ok (.iconst 0, 1) := dk_3 (dk_at dksX4_fits_0 6 rfl rfl)
theorem dX4_fits_7 : decode cX4_fits 7 = .ok (.istore_n 3, 1) := dk_62 (dk_at dksX4_fits_0 7 rfl rfl)
theorem dX4_fits_8 : decode cX4_fits 8 = .ok (.iload_n 3, 1) := dk_29 (dk_at dksX4_fits_0 8 rfl rfl)
theorem dX4_fits_9 : decode cX4_fits 9 = .ok (.aload_n 0, 1) := dk_42 (dk_at dksX4_fits_0 9 rfl rfl)
theorem dX4_fits_10 : decode cX4_fits 10 = .ok (.getfield 464, 3) := dk_180 1 208 (dk_at dksX4_fits_0 10 rfl rfl)
theorem dX4_fits_13 : decode cX4_fits 13 = .ok (.if_icmp .ge 84, 3) := dk_162 0 84 (dk_at dksX4_fits_0 13 rfl rfl)
theorem dX4_fits_16 : decode cX4_fits 16 = .ok (.iconst 1, 1) := dk_4 (dk_at dksX4_fits_0 16 rfl rfl)
theorem dX4_fits_17 : decode cX4_fits 17 = .ok (.istore 4, 2) := dk_54 4 (dk_at dksX4_fits_0 17 rfl rfl)
theorem dX4_fits_19 : decode cX4_fits 19 = .ok (.iconst 0, 1) := dk_3 (dk_at dksX4_fits_0 19 rfl rfl)
theorem dX4_fits_20 : decode cX4_fits 20 = .ok (.istore 5, 2) := dk_54 5 (dk_at dksX4_fits_0 20 rfl rfl)
theorem dX4_fits_22 : decode cX4_fits 22 = .ok (.iload 5, 2) := dk_21 5 (dk_at dksX4_fits_0 22 rfl rfl)
theorem dX4_fits_24 : decode cX4_fits 24 = .ok (.aload_n 0, 1) := dk_42 (dk_at dksX4_fits_1 0 rfl rfl)
theorem dX4_fits_25 : decode cX4_fits 25 = .ok (.getfield 488, 3) := dk_180 1 232 (dk_at dksX4_fits_1 1 rfl rfl)
theorem dX4_fits_28 : decode cX4_fits 28 = .ok (.if_icmp .ge 48, 3) := dk_162 0 48 (dk_at dksX4_fits_1 4 rfl rfl)
theorem dX4_fits_31 : decode cX4_fits 31 = .ok (.iload 4, 2) := dk_21 4 (dk_at dksX4_fits_1 7 rfl rfl)
theorem dX4_fits_33 : decode cX4_fits 33 = .ok (.ifCond .eq 34, 3) := dk_153 0 34 (dk_at dksX4_fits_1 9 rfl rfl)
theorem dX4_fits_36 : decode cX4_fits 36 = .ok (.aload_n 0, 1) := dk_42 (dk_at dksX4_fits_1 12 rfl rfl)
theorem dX4_fits_37 : decode cX4_fits 37 = .ok (.iload 5, 2) := dk_21 5 (dk_at dksX4_fits_1 13 rfl rfl)
theorem dX4_fits_39 : decode cX4_fits 39 = .ok (.iload_n 1, 1) := dk_27 (dk_at dksX4_fits_1 15 rfl rfl)
theorem dX4_fits_40 : decode cX4_fits 40 = .ok (.invokevirtual 654, 3) := dk_182 2 142 (dk_at dksX4_fits_1 16 rfl rfl)
theorem dX4_fits_43 : decode cX4_fits 43 = .ok (.ifCond .eq 20, 3) := dk_153 0 20 (dk_at dksX4_fits_1 19 rfl rfl)
theorem dX4_fits_46 : decode cX4_fits 46 = .ok (.aload_n 0, 1) := dk_42 (dk_at dksX4_fits_1 22 rfl rfl)
theorem dX4_fits_47 : decode cX4_fits 47 = .ok (.iload_n 3, 1) := dk_29 (dk_at dksX4_fits_1 23 rfl rfl)
theorem dX4_fits_48 : decode cX4_fits 48 = .ok (.iload 5, 2) := dk_21 5 (dk_at dksX4_fits_2 0 rfl rfl)
theorem dX4_fits_50 : decode cX4_fits 50 = .ok (.invokevirtual 657, 3) := dk_182 2 145 (dk_at dksX4_fits_2 2 rfl rfl)
theorem dX4_fits_53 : decode cX4_fits 53 = .ok (.aload_n 0, 1) := dk_42 (dk_at dksX4_fits_2 5 rfl rfl)
theorem dX4_fits_54 : decode cX4_fits 54 = .ok (.getfield 169, 3) := dk_180 0 169 (dk_at dksX4_fits_2 6 rfl rfl)
theorem dX4_fits_57 : decode cX4_fits 57 = .ok (.iload 5, 2) := dk_21 5 (dk_at dksX4_fits_2 9 rfl rfl)
theorem dX4_fits_59 : decode cX4_fits 59 = .ok (.iaload, 1) := dk_46 (dk_at dksX4_fits_2 11 rfl rfl)
theorem dX4_fits_60 : decode cX4_fits 60 = .ok (.if_icmp .ne 7, 3) := dk_160 0 7 (dk_at dksX4_fits_2 12 rfl rfl)
theorem dX4_fits_63 : decode cX4_fits 63 = .ok (.iconst 1, 1) := dk_4 (dk_at dksX4_fits_2 15 rfl rfl)
theorem dX4_fits_64 : decode cX4_fits 64 = .ok (.goto 4, 3) := dk_167 0 4 (dk_at dksX4_fits_2 16 rfl rfl)
theorem dX4_fits_67 : decode cX4_fits 67 = .ok (.iconst 0, 1) := dk_3 (dk_at dksX4_fits_2 19 rfl rfl)
theorem dX4_fits_68 : decode cX4_fits 68 = .ok (.istore 4, 2) := dk_54 4 (dk_at dksX4_fits_2 20 rfl rfl)
theorem dX4_fits_70 : decode cX4_fits 70 = .ok (.iinc 5 1, 3) := dk_132 5 1 (dk_at dksX4_fits_3 0 rfl rfl)
theorem dX4_fits_73 : decode cX4_fits 73 = .ok (.goto (-51), 3) := dk_167 255 205 (dk_at dksX4_fits_3 3 rfl rfl)
theorem dX4_fits_76 : decode cX4_fits 76 = .ok (.iload_n 2, 1) := dk_28 (dk_at dksX4_fits_3 6 rfl rfl)
theorem dX4_fits_77 : decode cX4_fits 77 = .ok (.iload 4, 2) := dk_21 4 (dk_at dksX4_fits_3 7 rfl rfl)
theorem dX4_fits_79 : decode cX4_fits 79 = .ok (.ifCond .eq 9, 3) := dk_153 0 9 (dk_at dksX4_fits_3 9 rfl rfl)
theorem dX4_fits_82 : decode cX4_fits 82 = .ok (.iconst 1, 1) := dk_4 (dk_at dksX4_fits_3 12 rfl rfl)
theorem dX4_fits_83 : decode cX4_fits 83 = .ok (.iload_n 3, 1) := dk_29 (dk_at dksX4_fits_3 13 rfl rfl)
theorem dX4_fits_84 : decode cX4_fits 84 = .ok (.ishl, 1) := dk_120 (dk_at dksX4_fits_3 14 rfl rfl)
theorem dX4_fits_85 : decode cX4_fits 85 = .ok (.goto 4, 3) := dk_167 0 4 (dk_at dksX4_fits_3 15 rfl rfl)
theorem dX4_fits_88 : decode cX4_fits 88 = .ok (.iconst 0, 1) := dk_3 (dk_at dksX4_fits_3 18 rfl rfl)
theorem dX4_fits_89 : decode cX4_fits 89 = .ok (.ior, 1) := dk_128 (dk_at dksX4_fits_3 19 rfl rfl)
theorem dX4_fits_90 : decode cX4_fits 90 = .ok (.istore_n 2, 1) := dk_61 (dk_at dksX4_fits_3 20 rfl rfl)
theorem dX4_fits_91 : decode cX4_fits 91 = .ok (.iinc 3 1, 3) := dk_132 3 1 (dk_at dksX4_fits_3 21 rfl rfl)
theorem dX4_fits_94 : decode cX4_fits 94 = .ok (.goto (-86), 3) := dk_167 255 170 (dk_at dksX4_fits_4 0 rfl rfl)
theorem dX4_fits_97 : decode cX4_fits 97 = .ok (.iload_n 2, 1) := dk_28 (dk_at dksX4_fits_4 3 rfl rfl)
theorem dX4_fits_98 : decode cX4_fits 98 = .ok (.ireturn, 1) := dk_172 (dk_at dksX4_fits_4 4 rfl rfl)
abbrev cX4_counts : ByteArray := prog_23_method_128_code
def yX4_counts : MethodName := ⟨RX4, "counts", "(II)Z"⟩
def dkwX4_counts_1 : List UInt8 := [46, 28, 164, 0, 7, 4, 167, 0, 4, 3, 172]
abbrev dktX4_counts_1 : List UInt8 := dkwX4_counts_1 ++ []
def dkwX4_counts_0 : List UInt8 := [42, 180, 0, 172, 27, 46, 28, 163, 0, 26, 42, 180, 0, 175, 27, 46, 155, 0, 13, 42, 180, 0, 175, 27]
abbrev dktX4_counts_0 : List UInt8 := dkwX4_counts_0 ++ dktX4_counts_1
theorem dksX4_counts_0 : cX4_counts.data.toList.drop 0 = dktX4_counts_0 := by decide +kernel
theorem dksX4_counts_1 : cX4_counts.data.toList.drop 24 = dktX4_counts_1 := dk_seg dksX4_counts_0 24 rfl rfl
theorem dX4_counts_0 : decode cX4_counts 0 = .ok (.aload_n 0, 1) := dk_42 (dk_at dksX4_counts_0 0 rfl rfl)
theorem dX4_counts_1 : decode cX4_counts 1 = .ok (.getfield 172, 3) := dk_180 0 172 (dk_at dksX4_counts_0 1 rfl rfl)
theorem dX4_counts_4 : decode cX4_counts 4 = .ok (.iload_n 1, 1) := dk_27 (dk_at dksX4_counts_0 4 rfl rfl)
theorem dX4_counts_5 : decode cX4_counts 5 = .ok (.iaload, 1) := dk_46 (dk_at dksX4_counts_0 5 rfl rfl)
theorem dX4_counts_6 : decode cX4_counts 6 = .ok (.iload_n 2, 1) := dk_28 (dk_at dksX4_counts_0 6 rfl rfl)
theorem dX4_counts_7 : decode cX4_counts 7 = .ok (.if_icmp .gt 26, 3) := dk_163 0 26 (dk_at dksX4_counts_0 7 rfl rfl)
theorem dX4_counts_10 : decode cX4_counts 10 = .ok (.aload_n 0, 1) := dk_42 (dk_at dksX4_counts_0 10 rfl rfl)
theorem dX4_counts_11 : decode cX4_counts 11 = .ok (.getfield 175, 3) := dk_180 0 175 (dk_at dksX4_counts_0 11 rfl rfl)
theorem dX4_counts_14 : decode cX4_counts 14 = .ok (.iload_n 1, 1) := dk_27 (dk_at dksX4_counts_0 14 rfl rfl)
theorem dX4_counts_15 : decode cX4_counts 15 = .ok (.iaload, 1) := dk_46 (dk_at dksX4_counts_0 15 rfl rfl)
theorem dX4_counts_16 : decode cX4_counts 16 = .ok (.ifCond .lt 13, 3) := dk_155 0 13 (dk_at dksX4_counts_0 16 rfl rfl)
theorem dX4_counts_19 : decode cX4_counts 19 = .ok (.aload_n 0, 1) := dk_42 (dk_at dksX4_counts_0 19 rfl rfl)
theorem dX4_counts_20 : decode cX4_counts 20 = .ok (.getfield 175, 3) := dk_180 0 175 (dk_at dksX4_counts_0 20 rfl rfl)
theorem dX4_counts_23 : decode cX4_counts 23 = .ok (.iload_n 1, 1) := dk_27 (dk_at dksX4_counts_0 23 rfl rfl)
theorem dX4_counts_24 : decode cX4_counts 24 = .ok (.iaload, 1) := dk_46 (dk_at dksX4_counts_1 0 rfl rfl)
theorem dX4_counts_25 : decode cX4_counts 25 = .ok (.iload_n 2, 1) := dk_28 (dk_at dksX4_counts_1 1 rfl rfl)
theorem dX4_counts_26 : decode cX4_counts 26 = .ok (.if_icmp .le 7, 3) := dk_164 0 7 (dk_at dksX4_counts_1 2 rfl rfl)
theorem dX4_counts_29 : decode cX4_counts 29 = .ok (.iconst 1, 1) := dk_4 (dk_at dksX4_counts_1 5 rfl rfl)
theorem dX4_counts_30 : decode cX4_counts 30 = .ok (.goto 4, 3) := dk_167 0 4 (dk_at dksX4_counts_1 6 rfl rfl)
theorem dX4_counts_33 : decode cX4_counts 33 = .ok (.iconst 0, 1) := dk_3 (dk_at dksX4_counts_1 9 rfl rfl)
theorem dX4_counts_34 : decode cX4_counts 34 = .ok (.ireturn, 1) := dk_172 (dk_at dksX4_counts_1 10 rfl rfl)
abbrev cX4_takenBy : ByteArray := prog_23_method_129_code
def yX4_takenBy : MethodName := ⟨RX4, "takenBy", "(II)I"⟩
def dkwX4_takenBy_3 : List UInt8 := [21, 4, 163, 0, 6, 167, 0, 10, 21, 5, 62, 21, 6, 54, 4, 132, 5, 1, 167, 255, 175, 29, 172]
abbrev dktX4_takenBy_3 : List UInt8 := dkwX4_takenBy_3 ++ []
def dkwX4_takenBy_2 : List UInt8 := [42, 42, 180, 0, 163, 28, 46, 21, 5, 3, 182, 2, 26, 182, 1, 255, 54, 6, 29, 155, 0, 13, 21, 6]
abbrev dktX4_takenBy_2 : List UInt8 := dkwX4_takenBy_2 ++ dktX4_takenBy_3
def dkwX4_takenBy_1 : List UInt8 := [21, 5, 122, 4, 126, 154, 0, 6, 167, 0, 55, 42, 8, 27, 96, 42, 180, 0, 163, 28, 46, 21, 5, 3]
abbrev dktX4_takenBy_1 : List UInt8 := dkwX4_takenBy_1 ++ dktX4_takenBy_2
def dkwX4_takenBy_0 : List UInt8 := [2, 62, 3, 54, 4, 3, 54, 5, 21, 5, 42, 180, 1, 211, 162, 0, 78, 42, 180, 0, 166, 28, 46]
abbrev dktX4_takenBy_0 : List UInt8 := dkwX4_takenBy_0 ++ dktX4_takenBy_1
theorem dksX4_takenBy_0 : cX4_takenBy.data.toList.drop 0 = dktX4_takenBy_0 := by decide +kernel
theorem dksX4_takenBy_1 : cX4_takenBy.data.toList.drop 23 = dktX4_takenBy_1 := dk_seg dksX4_takenBy_0 23 rfl rfl
theorem dksX4_takenBy_2 : cX4_takenBy.data.toList.drop 47 = dktX4_takenBy_2 := dk_seg dksX4_takenBy_1 24 rfl rfl
theorem dksX4_takenBy_3 : cX4_takenBy.data.toList.drop 71 = dktX4_takenBy_3 := dk_seg dksX4_takenBy_2 24 rfl rfl
theorem dX4_takenBy_0 : decode cX4_takenBy 0 = .ok (.iconst (-1), 1) := dk_2 (dk_at dksX4_takenBy_0 0 rfl rfl)
theorem dX4_takenBy_1 : decode cX4_takenBy 1 = .ok (.istore_n 3, 1) := dk_62 (dk_at dksX4_takenBy_0 1 rfl rfl)
theorem dX4_takenBy_2 : decode cX4_takenBy 2 = .ok (.iconst 0, 1) := dk_3 (dk_at dksX4_takenBy_0 2 rfl rfl)
theorem dX4_takenBy_3 : decode cX4_takenBy 3 = .ok (.istore 4, 2) := dk_54 4 (dk_at dksX4_takenBy_0 3 rfl rfl)
theorem dX4_takenBy_5 : decode cX4_takenBy 5 = .ok (.iconst 0, 1) := dk_3 (dk_at dksX4_takenBy_0 5 rfl rfl)
theorem dX4_takenBy_6 : decode cX4_takenBy 6 = .ok (.istore 5, 2) := dk_54 5 (dk_at dksX4_takenBy_0 6 rfl rfl)
theorem dX4_takenBy_8 : decode cX4_takenBy 8 = .ok (.iload 5, 2) := dk_21 5 (dk_at dksX4_takenBy_0 8 rfl rfl)
theorem dX4_takenBy_10 : decode cX4_takenBy 10 = .ok (.aload_n 0, 1) := dk_42 (dk_at dksX4_takenBy_0 10 rfl rfl)
theorem dX4_takenBy_11 : decode cX4_takenBy 11 = .ok (.getfield 467, 3) := dk_180 1 211 (dk_at dksX4_takenBy_0 11 rfl rfl)
theorem dX4_takenBy_14 : decode cX4_takenBy 14 = .ok (.if_icmp .ge 78, 3) := dk_162 0 78 (dk_at dksX4_takenBy_0 14 rfl rfl)
theorem dX4_takenBy_17 : decode cX4_takenBy 17 = .ok (.aload_n 0, 1) := dk_42 (dk_at dksX4_takenBy_0 17 rfl rfl)
theorem dX4_takenBy_18 : decode cX4_takenBy 18 = .ok (.getfield 166, 3) := dk_180 0 166 (dk_at dksX4_takenBy_0 18 rfl rfl)
theorem dX4_takenBy_21 : decode cX4_takenBy 21 = .ok (.iload_n 2, 1) := dk_28 (dk_at dksX4_takenBy_0 21 rfl rfl)
theorem dX4_takenBy_22 : decode cX4_takenBy 22 = .ok (.iaload, 1) := dk_46 (dk_at dksX4_takenBy_0 22 rfl rfl)
theorem dX4_takenBy_23 : decode cX4_takenBy 23 = .ok (.iload 5, 2) := dk_21 5 (dk_at dksX4_takenBy_1 0 rfl rfl)
theorem dX4_takenBy_25 : decode cX4_takenBy 25 = .ok (.ishr, 1) := dk_122 (dk_at dksX4_takenBy_1 2 rfl rfl)
theorem dX4_takenBy_26 : decode cX4_takenBy 26 = .ok (.iconst 1, 1) := dk_4 (dk_at dksX4_takenBy_1 3 rfl rfl)
theorem dX4_takenBy_27 : decode cX4_takenBy 27 = .ok (.iand, 1) := dk_126 (dk_at dksX4_takenBy_1 4 rfl rfl)
theorem dX4_takenBy_28 : decode cX4_takenBy 28 = .ok (.ifCond .ne 6, 3) := dk_154 0 6 (dk_at dksX4_takenBy_1 5 rfl rfl)
theorem dX4_takenBy_31 : decode cX4_takenBy 31 = .ok (.goto 55, 3) := dk_167 0 55 (dk_at dksX4_takenBy_1 8 rfl rfl)
theorem dX4_takenBy_34 : decode cX4_takenBy 34 = .ok (.aload_n 0, 1) := dk_42 (dk_at dksX4_takenBy_1 11 rfl rfl)
theorem dX4_takenBy_35 : decode cX4_takenBy 35 = .ok (.iconst 5, 1) := dk_8 (dk_at dksX4_takenBy_1 12 rfl rfl)
theorem dX4_takenBy_36 : decode cX4_takenBy 36 = .ok (.iload_n 1, 1) := dk_27 (dk_at dksX4_takenBy_1 13 rfl rfl)
theorem dX4_takenBy_37 : decode cX4_takenBy 37 = .ok (.iadd, 1) := dk_96 (dk_at dksX4_takenBy_1 14 rfl rfl)
theorem dX4_takenBy_38 : decode cX4_takenBy 38 = .ok (.aload_n 0, 1) := dk_42 (dk_at dksX4_takenBy_1 15 rfl rfl)
theorem dX4_takenBy_39 : decode cX4_takenBy 39 = .ok (.getfield 163, 3) := dk_180 0 163 (dk_at dksX4_takenBy_1 16 rfl rfl)
theorem dX4_takenBy_42 : decode cX4_takenBy 42 = .ok (.iload_n 2, 1) := dk_28 (dk_at dksX4_takenBy_1 19 rfl rfl)
theorem dX4_takenBy_43 : decode cX4_takenBy 43 = .ok (.iaload, 1) := dk_46 (dk_at dksX4_takenBy_1 20 rfl rfl)
theorem dX4_takenBy_44 : decode cX4_takenBy 44 = .ok (.iload 5, 2) := dk_21 5 (dk_at dksX4_takenBy_1 21 rfl rfl)
theorem dX4_takenBy_46 : decode cX4_takenBy 46 = .ok (.iconst 0, 1) := dk_3 (dk_at dksX4_takenBy_1 23 rfl rfl)
theorem dX4_takenBy_47 : decode cX4_takenBy 47 = .ok (.aload_n 0, 1) := dk_42 (dk_at dksX4_takenBy_2 0 rfl rfl)
theorem dX4_takenBy_48 : decode cX4_takenBy 48 = .ok (.aload_n 0, 1) := dk_42 (dk_at dksX4_takenBy_2 1 rfl rfl)
theorem dX4_takenBy_49 : decode cX4_takenBy 49 = .ok (.getfield 163, 3) := dk_180 0 163 (dk_at dksX4_takenBy_2 2 rfl rfl)
theorem dX4_takenBy_52 : decode cX4_takenBy 52 = .ok (.iload_n 2, 1) := dk_28 (dk_at dksX4_takenBy_2 5 rfl rfl)
theorem dX4_takenBy_53 : decode cX4_takenBy 53 = .ok (.iaload, 1) := dk_46 (dk_at dksX4_takenBy_2 6 rfl rfl)
theorem dX4_takenBy_54 : decode cX4_takenBy 54 = .ok (.iload 5, 2) := dk_21 5 (dk_at dksX4_takenBy_2 7 rfl rfl)
theorem dX4_takenBy_56 : decode cX4_takenBy 56 = .ok (.iconst 0, 1) := dk_3 (dk_at dksX4_takenBy_2 9 rfl rfl)
theorem dX4_takenBy_57 : decode cX4_takenBy 57 = .ok (.invokevirtual 538, 3) := dk_182 2 26 (dk_at dksX4_takenBy_2 10 rfl rfl)
theorem dX4_takenBy_60 : decode cX4_takenBy 60 = .ok (.invokevirtual 511, 3) := dk_182 1 255 (dk_at dksX4_takenBy_2 13 rfl rfl)
theorem dX4_takenBy_63 : decode cX4_takenBy 63 = .ok (.istore 6, 2) := dk_54 6 (dk_at dksX4_takenBy_2 16 rfl rfl)
theorem dX4_takenBy_65 : decode cX4_takenBy 65 = .ok (.iload_n 3, 1) := dk_29 (dk_at dksX4_takenBy_2 18 rfl rfl)
theorem dX4_takenBy_66 : decode cX4_takenBy 66 = .ok (.ifCond .lt 13, 3) := dk_155 0 13 (dk_at dksX4_takenBy_2 19 rfl rfl)
theorem dX4_takenBy_69 : decode cX4_takenBy 69 = .ok (.iload 6, 2) := dk_21 6 (dk_at dksX4_takenBy_2 22 rfl rfl)
theorem dX4_takenBy_71 : decode cX4_takenBy 71 = .ok (.iload 4, 2) := dk_21 4 (dk_at dksX4_takenBy_3 0 rfl rfl)
theorem dX4_takenBy_73 : decode cX4_takenBy 73 = .ok (.if_icmp .gt 6, 3) := dk_163 0 6 (dk_at dksX4_takenBy_3 2 rfl rfl)
theorem dX4_takenBy_76 : decode cX4_takenBy 76 = .ok (.goto 10, 3) := dk_167 0 10 (dk_at dksX4_takenBy_3 5 rfl rfl)
theorem dX4_takenBy_79 : decode cX4_takenBy 79 = .ok (.iload 5, 2) := dk_21 5 (dk_at dksX4_takenBy_3 8 rfl rfl)
theorem dX4_takenBy_81 : decode cX4_takenBy 81 = .ok (.istore_n 3, 1) := dk_62 (dk_at dksX4_takenBy_3 10 rfl rfl)
theorem dX4_takenBy_82 : decode cX4_takenBy 82 = .ok (.iload 6, 2) := dk_21 6 (dk_at dksX4_takenBy_3 11 rfl rfl)
theorem dX4_takenBy_84 : decode cX4_takenBy 84 = .ok (.istore 4, 2) := dk_54 4 (dk_at dksX4_takenBy_3 13 rfl rfl)
theorem dX4_takenBy_86 : decode cX4_takenBy 86 = .ok (.iinc 5 1, 3) := dk_132 5 1 (dk_at dksX4_takenBy_3 15 rfl rfl)
theorem dX4_takenBy_89 : decode cX4_takenBy 89 = .ok (.goto (-81), 3) := dk_167 255 175 (dk_at dksX4_takenBy_3 18 rfl rfl)
theorem dX4_takenBy_92 : decode cX4_takenBy 92 = .ok (.iload_n 3, 1) := dk_29 (dk_at dksX4_takenBy_3 21 rfl rfl)
theorem dX4_takenBy_93 : decode cX4_takenBy 93 = .ok (.ireturn, 1) := dk_172 (dk_at dksX4_takenBy_3 22 rfl rfl)
abbrev cX4_nearest : ByteArray := prog_23_method_132_code
def yX4_nearest : MethodName := ⟨RX4, "nearest", "(II)I"⟩
def dkwX4_nearest_3 : List UInt8 := [167, 0, 9, 42, 29, 28, 182, 2, 148, 172]
abbrev dktX4_nearest_3 : List UInt8 := dkwX4_nearest_3 ++ []
def dkwX4_nearest_2 : List UInt8 := [182, 2, 148, 162, 0, 8, 21, 4, 167, 0, 4, 29, 62, 132, 4, 1, 167, 255, 221, 27, 154, 0, 7, 29]
abbrev dktX4_nearest_2 : List UInt8 := dkwX4_nearest_2 ++ dktX4_nearest_3
def dkwX4_nearest_1 : List UInt8 := [4, 54, 4, 21, 4, 42, 180, 1, 208, 162, 0, 32, 42, 21, 4, 28, 182, 2, 148, 42, 29, 28]
abbrev dktX4_nearest_1 : List UInt8 := dkwX4_nearest_1 ++ dktX4_nearest_2
def dkwX4_nearest_0 : List UInt8 := [42, 180, 1, 208, 153, 0, 12, 27, 3, 4, 184, 1, 238, 154, 0, 5, 2, 172, 42, 182, 1, 220, 3, 62]
abbrev dktX4_nearest_0 : List UInt8 := dkwX4_nearest_0 ++ dktX4_nearest_1
theorem dksX4_nearest_0 : cX4_nearest.data.toList.drop 0 = dktX4_nearest_0 := by decide +kernel
theorem dksX4_nearest_1 : cX4_nearest.data.toList.drop 24 = dktX4_nearest_1 := dk_seg dksX4_nearest_0 24 rfl rfl
theorem dksX4_nearest_2 : cX4_nearest.data.toList.drop 46 = dktX4_nearest_2 := dk_seg dksX4_nearest_1 22 rfl rfl
theorem dksX4_nearest_3 : cX4_nearest.data.toList.drop 70 = dktX4_nearest_3 := dk_seg dksX4_nearest_2 24 rfl rfl
theorem dX4_nearest_0 : decode cX4_nearest 0 = .ok (.aload_n 0, 1) := dk_42 (dk_at dksX4_nearest_0 0 rfl rfl)
theorem dX4_nearest_1 : decode cX4_nearest 1 = .ok (.getfield 464, 3) := dk_180 1 208 (dk_at dksX4_nearest_0 1 rfl rfl)
theorem dX4_nearest_4 : decode cX4_nearest 4 = .ok (.ifCond .eq 12, 3) := dk_153 0 12 (dk_at dksX4_nearest_0 4 rfl rfl)
theorem dX4_nearest_7 : decode cX4_nearest 7 = .ok (.iload_n 1, 1) := dk_27 (dk_at dksX4_nearest_0 7 rfl rfl)
theorem dX4_nearest_8 : decode cX4_nearest 8 = .ok (.iconst 0, 1) := dk_3 (dk_at dksX4_nearest_0 8 rfl rfl)
theorem dX4_nearest_9 : decode cX4_nearest 9 = .ok (.iconst 1, 1) := dk_4 (dk_at dksX4_nearest_0 9 rfl rfl)
theorem dX4_nearest_10 : decode cX4_nearest 10 = .ok (.invokestatic 494, 3) := dk_184 1 238 (dk_at dksX4_nearest_0 10 rfl rfl)
theorem dX4_nearest_13 : decode cX4_nearest 13 = .ok (.ifCond .ne 5, 3) := dk_154 0 5 (dk_at dksX4_nearest_0 13 rfl rfl)
theorem dX4_nearest_16 : decode cX4_nearest 16 = .ok (.iconst (-1), 1) := dk_2 (dk_at dksX4_nearest_0 16 rfl rfl)
theorem dX4_nearest_17 : decode cX4_nearest 17 = .ok (.ireturn, 1) := dk_172 (dk_at dksX4_nearest_0 17 rfl rfl)
theorem dX4_nearest_18 : decode cX4_nearest 18 = .ok (.aload_n 0, 1) := dk_42 (dk_at dksX4_nearest_0 18 rfl rfl)
theorem dX4_nearest_19 : decode cX4_nearest 19 = .ok (.invokevirtual 476, 3) := dk_182 1 220 (dk_at dksX4_nearest_0 19 rfl rfl)
theorem dX4_nearest_22 : decode cX4_nearest 22 = .ok (.iconst 0, 1) := dk_3 (dk_at dksX4_nearest_0 22 rfl rfl)
theorem dX4_nearest_23 : decode cX4_nearest 23 = .ok (.istore_n 3, 1) := dk_62 (dk_at dksX4_nearest_0 23 rfl rfl)
theorem dX4_nearest_24 : decode cX4_nearest 24 = .ok (.iconst 1, 1) := dk_4 (dk_at dksX4_nearest_1 0 rfl rfl)
theorem dX4_nearest_25 : decode cX4_nearest 25 = .ok (.istore 4, 2) := dk_54 4 (dk_at dksX4_nearest_1 1 rfl rfl)
theorem dX4_nearest_27 : decode cX4_nearest 27 = .ok (.iload 4, 2) := dk_21 4 (dk_at dksX4_nearest_1 3 rfl rfl)
theorem dX4_nearest_29 : decode cX4_nearest 29 = .ok (.aload_n 0, 1) := dk_42 (dk_at dksX4_nearest_1 5 rfl rfl)
theorem dX4_nearest_30 : decode cX4_nearest 30 = .ok (.getfield 464, 3) := dk_180 1 208 (dk_at dksX4_nearest_1 6 rfl rfl)
theorem dX4_nearest_33 : decode cX4_nearest 33 = .ok (.if_icmp .ge 32, 3) := dk_162 0 32 (dk_at dksX4_nearest_1 9 rfl rfl)
theorem dX4_nearest_36 : decode cX4_nearest 36 = .ok (.aload_n 0, 1) := dk_42 (dk_at dksX4_nearest_1 12 rfl rfl)
theorem dX4_nearest_37 : decode cX4_nearest 37 = .ok (.iload 4, 2) := dk_21 4 (dk_at dksX4_nearest_1 13 rfl rfl)
theorem dX4_nearest_39 : decode cX4_nearest 39 = .ok (.iload_n 2, 1) := dk_28 (dk_at dksX4_nearest_1 15 rfl rfl)
theorem dX4_nearest_40 : decode cX4_nearest 40 = .ok (.invokevirtual 660, 3) := dk_182 2 148 (dk_at dksX4_nearest_1 16 rfl rfl)
theorem dX4_nearest_43 : decode cX4_nearest 43 = .ok (.aload_n 0, 1) := dk_42 (dk_at dksX4_nearest_1 19 rfl rfl)
theorem dX4_nearest_44 : decode cX4_nearest 44 = .ok (.iload_n 3, 1) := dk_29 (dk_at dksX4_nearest_1 20 rfl rfl)
theorem dX4_nearest_45 : decode cX4_nearest 45 = .ok (.iload_n 2, 1) := dk_28 (dk_at dksX4_nearest_1 21 rfl rfl)
theorem dX4_nearest_46 : decode cX4_nearest 46 = .ok (.invokevirtual 660, 3) := dk_182 2 148 (dk_at dksX4_nearest_2 0 rfl rfl)
theorem dX4_nearest_49 : decode cX4_nearest 49 = .ok (.if_icmp .ge 8, 3) := dk_162 0 8 (dk_at dksX4_nearest_2 3 rfl rfl)
theorem dX4_nearest_52 : decode cX4_nearest 52 = .ok (.iload 4, 2) := dk_21 4 (dk_at dksX4_nearest_2 6 rfl rfl)
theorem dX4_nearest_54 : decode cX4_nearest 54 = .ok (.goto 4, 3) := dk_167 0 4 (dk_at dksX4_nearest_2 8 rfl rfl)
theorem dX4_nearest_57 : decode cX4_nearest 57 = .ok (.iload_n 3, 1) := dk_29 (dk_at dksX4_nearest_2 11 rfl rfl)
theorem dX4_nearest_58 : decode cX4_nearest 58 = .ok (.istore_n 3, 1) := dk_62 (dk_at dksX4_nearest_2 12 rfl rfl)
theorem dX4_nearest_59 : decode cX4_nearest 59 = .ok (.iinc 4 1, 3) := dk_132 4 1 (dk_at dksX4_nearest_2 13 rfl rfl)
theorem dX4_nearest_62 : decode cX4_nearest 62 = .ok (.goto (-35), 3) := dk_167 255 221 (dk_at dksX4_nearest_2 16 rfl rfl)
theorem dX4_nearest_65 : decode cX4_nearest 65 = .ok (.iload_n 1, 1) := dk_27 (dk_at dksX4_nearest_2 19 rfl rfl)
theorem dX4_nearest_66 : decode cX4_nearest 66 = .ok (.ifCond .ne 7, 3) := dk_154 0 7 (dk_at dksX4_nearest_2 20 rfl rfl)
theorem dX4_nearest_69 : decode cX4_nearest 69 = .ok (.iload_n 3, 1) := dk_29 (dk_at dksX4_nearest_2 23 rfl rfl)
theorem dX4_nearest_70 : decode cX4_nearest 70 = .ok (.goto 9, 3) := dk_167 0 9 (dk_at dksX4_nearest_3 0 rfl rfl)
theorem dX4_nearest_73 : decode cX4_nearest 73 = .ok (.aload_n 0, 1) := dk_42 (dk_at dksX4_nearest_3 3 rfl rfl)
theorem dX4_nearest_74 : decode cX4_nearest 74 = .ok (.iload_n 3, 1) := dk_29 (dk_at dksX4_nearest_3 4 rfl rfl)
theorem dX4_nearest_75 : decode cX4_nearest 75 = .ok (.iload_n 2, 1) := dk_28 (dk_at dksX4_nearest_3 5 rfl rfl)
theorem dX4_nearest_76 : decode cX4_nearest 76 = .ok (.invokevirtual 660, 3) := dk_182 2 148 (dk_at dksX4_nearest_3 6 rfl rfl)
theorem dX4_nearest_79 : decode cX4_nearest 79 = .ok (.ireturn, 1) := dk_172 (dk_at dksX4_nearest_3 9 rfl rfl)
abbrev cX4_falseBy : ByteArray := prog_23_method_131_code
def yX4_falseBy : MethodName := ⟨RX4, "falseBy", "(II)I"⟩
def dkwX4_falseBy_2 : List UInt8 := [3, 96, 62, 132, 4, 1, 167, 255, 209, 29, 172]
abbrev dktX4_falseBy_2 : List UInt8 := dkwX4_falseBy_2 ++ []
def dkwX4_falseBy_1 : List UInt8 := [153, 0, 24, 42, 27, 21, 4, 182, 2, 145, 42, 180, 0, 169, 21, 4, 46, 159, 0, 7, 4, 167, 0, 4]
abbrev dktX4_falseBy_1 : List UInt8 := dkwX4_falseBy_1 ++ dktX4_falseBy_2
def dkwX4_falseBy_0 : List UInt8 := [3, 62, 3, 54, 4, 21, 4, 42, 180, 1, 232, 162, 0, 44, 29, 42, 21, 4, 28, 182, 2, 142]
abbrev dktX4_falseBy_0 : List UInt8 := dkwX4_falseBy_0 ++ dktX4_falseBy_1
theorem dksX4_falseBy_0 : cX4_falseBy.data.toList.drop 0 = dktX4_falseBy_0 := by decide +kernel
theorem dksX4_falseBy_1 : cX4_falseBy.data.toList.drop 22 = dktX4_falseBy_1 := dk_seg dksX4_falseBy_0 22 rfl rfl
theorem dksX4_falseBy_2 : cX4_falseBy.data.toList.drop 46 = dktX4_falseBy_2 := dk_seg dksX4_falseBy_1 24 rfl rfl
theorem dX4_falseBy_0 : decode cX4_falseBy 0 = .ok (.iconst 0, 1) := dk_3 (dk_at dksX4_falseBy_0 0 rfl rfl)
theorem dX4_falseBy_1 : decode cX4_falseBy 1 = .ok (.istore_n 3, 1) := dk_62 (dk_at dksX4_falseBy_0 1 rfl rfl)
theorem dX4_falseBy_2 : decode cX4_falseBy 2 = .ok (.iconst 0, 1) := dk_3 (dk_at dksX4_falseBy_0 2 rfl rfl)
theorem dX4_falseBy_3 : decode cX4_falseBy 3 = .ok (.istore 4, 2) := dk_54 4 (dk_at dksX4_falseBy_0 3 rfl rfl)
theorem dX4_falseBy_5 : decode cX4_falseBy 5 = .ok (.iload 4, 2) := dk_21 4 (dk_at dksX4_falseBy_0 5 rfl rfl)
theorem dX4_falseBy_7 : decode cX4_falseBy 7 = .ok (.aload_n 0, 1) := dk_42 (dk_at dksX4_falseBy_0 7 rfl rfl)
theorem dX4_falseBy_8 : decode cX4_falseBy 8 = .ok (.getfield 488, 3) := dk_180 1 232 (dk_at dksX4_falseBy_0 8 rfl rfl)
theorem dX4_falseBy_11 : decode cX4_falseBy 11 = .ok (.if_icmp .ge 44, 3) := dk_162 0 44 (dk_at dksX4_falseBy_0 11 rfl rfl)
theorem dX4_falseBy_14 : decode cX4_falseBy 14 = .ok (.iload_n 3, 1) := dk_29 (dk_at dksX4_falseBy_0 14 rfl rfl)
theorem dX4_falseBy_15 : decode cX4_falseBy 15 = .ok (.aload_n 0, 1) := dk_42 (dk_at dksX4_falseBy_0 15 rfl rfl)
theorem dX4_falseBy_16 : decode cX4_falseBy 16 = .ok (.iload 4, 2) := dk_21 4 (dk_at dksX4_falseBy_0 16 rfl rfl)
theorem dX4_falseBy_18 : decode cX4_falseBy 18 = .ok (.iload_n 2, 1) := dk_28 (dk_at dksX4_falseBy_0 18 rfl rfl)
theorem dX4_falseBy_19 : decode cX4_falseBy 19 = .ok (.invokevirtual 654, 3) := dk_182 2 142 (dk_at dksX4_falseBy_0 19 rfl rfl)
theorem dX4_falseBy_22 : decode cX4_falseBy 22 = .ok (.ifCond .eq 24, 3) := dk_153 0 24 (dk_at dksX4_falseBy_1 0 rfl rfl)
theorem dX4_falseBy_25 : decode cX4_falseBy 25 = .ok (.aload_n 0, 1) := dk_42 (dk_at dksX4_falseBy_1 3 rfl rfl)
theorem dX4_falseBy_26 : decode cX4_falseBy 26 = .ok (.iload_n 1, 1) := dk_27 (dk_at dksX4_falseBy_1 4 rfl rfl)
theorem dX4_falseBy_27 : decode cX4_falseBy 27 = .ok (.iload 4, 2) := dk_21 4 (dk_at dksX4_falseBy_1 5 rfl rfl)
theorem dX4_falseBy_29 : decode cX4_falseBy 29 = .ok (.invokevirtual 657, 3) := dk_182 2 145 (dk_at dksX4_falseBy_1 7 rfl rfl)
theorem dX4_falseBy_32 : decode cX4_falseBy 32 = .ok (.aload_n 0, 1) := dk_42 (dk_at dksX4_falseBy_1 10 rfl rfl)
theorem dX4_falseBy_33 : decode cX4_falseBy 33 = .ok (.getfield 169, 3) := dk_180 0 169 (dk_at dksX4_falseBy_1 11 rfl rfl)
theorem dX4_falseBy_36 : decode cX4_falseBy 36 = .ok (.iload 4, 2) := dk_21 4 (dk_at dksX4_falseBy_1 14 rfl rfl)
theorem dX4_falseBy_38 : decode cX4_falseBy 38 = .ok (.iaload, 1) := dk_46 (dk_at dksX4_falseBy_1 16 rfl rfl)
theorem dX4_falseBy_39 : decode cX4_falseBy 39 = .ok (.if_icmp .eq 7, 3) := dk_159 0 7 (dk_at dksX4_falseBy_1 17 rfl rfl)
theorem dX4_falseBy_42 : decode cX4_falseBy 42 = .ok (.iconst 1, 1) := dk_4 (dk_at dksX4_falseBy_1 20 rfl rfl)
theorem dX4_falseBy_43 : decode cX4_falseBy 43 = .ok (.goto 4, 3) := dk_167 0 4 (dk_at dksX4_falseBy_1 21 rfl rfl)
theorem dX4_falseBy_46 : decode cX4_falseBy 46 = .ok (.iconst 0, 1) := dk_3 (dk_at dksX4_falseBy_2 0 rfl rfl)
theorem dX4_falseBy_47 : decode cX4_falseBy 47 = .ok (.iadd, 1) := dk_96 (dk_at dksX4_falseBy_2 1 rfl rfl)
theorem dX4_falseBy_48 : decode cX4_falseBy 48 = .ok (.istore_n 3, 1) := dk_62 (dk_at dksX4_falseBy_2 2 rfl rfl)
theorem dX4_falseBy_49 : decode cX4_falseBy 49 = .ok (.iinc 4 1, 3) := dk_132 4 1 (dk_at dksX4_falseBy_2 3 rfl rfl)
theorem dX4_falseBy_52 : decode cX4_falseBy 52 = .ok (.goto (-47), 3) := dk_167 255 209 (dk_at dksX4_falseBy_2 6 rfl rfl)
theorem dX4_falseBy_55 : decode cX4_falseBy 55 = .ok (.iload_n 3, 1) := dk_29 (dk_at dksX4_falseBy_2 9 rfl rfl)
theorem dX4_falseBy_56 : decode cX4_falseBy 56 = .ok (.ireturn, 1) := dk_172 (dk_at dksX4_falseBy_2 10 rfl rfl)
abbrev cX4_chance : ByteArray := prog_23_method_133_code
def yX4_chance : MethodName := ⟨RX4, "chance", "(I)J"⟩
def dkwX4_chance_2 : List UInt8 := [158, 0, 9, 20, 2, 151, 167, 0, 8, 32, 21, 5, 133, 105, 65, 132, 4, 1, 167, 255, 195, 32, 173]
abbrev dktX4_chance_2 : List UInt8 := dkwX4_chance_2 ++ []
def dkwX4_chance_1 : List UInt8 := [167, 0, 39, 42, 180, 0, 166, 21, 4, 46, 184, 2, 116, 54, 5, 32, 21, 5, 133, 105, 20, 2, 151, 148]
abbrev dktX4_chance_1 : List UInt8 := dkwX4_chance_1 ++ dktX4_chance_2
def dkwX4_chance_0 : List UInt8 := [10, 65, 3, 54, 4, 21, 4, 42, 180, 1, 232, 162, 0, 58, 42, 21, 4, 27, 182, 2, 142, 154, 0, 6]
abbrev dktX4_chance_0 : List UInt8 := dkwX4_chance_0 ++ dktX4_chance_1
theorem dksX4_chance_0 : cX4_chance.data.toList.drop 0 = dktX4_chance_0 := by decide +kernel
theorem dksX4_chance_1 : cX4_chance.data.toList.drop 24 = dktX4_chance_1 := dk_seg dksX4_chance_0 24 rfl rfl
theorem dksX4_chance_2 : cX4_chance.data.toList.drop 48 = dktX4_chance_2 := dk_seg dksX4_chance_1 24 rfl rfl
theorem dX4_chance_0 : decode cX4_chance 0 = .ok (.lconst 1, 1) := dk_10 (dk_at dksX4_chance_0 0 rfl rfl)
theorem dX4_chance_1 : decode cX4_chance 1 = .ok (.lstore_n 2, 1) := dk_65 (dk_at dksX4_chance_0 1 rfl rfl)
theorem dX4_chance_2 : decode cX4_chance 2 = .ok (.iconst 0, 1) := dk_3 (dk_at dksX4_chance_0 2 rfl rfl)
theorem dX4_chance_3 : decode cX4_chance 3 = .ok (.istore 4, 2) := dk_54 4 (dk_at dksX4_chance_0 3 rfl rfl)
theorem dX4_chance_5 : decode cX4_chance 5 = .ok (.iload 4, 2) := dk_21 4 (dk_at dksX4_chance_0 5 rfl rfl)
theorem dX4_chance_7 : decode cX4_chance 7 = .ok (.aload_n 0, 1) := dk_42 (dk_at dksX4_chance_0 7 rfl rfl)
theorem dX4_chance_8 : decode cX4_chance 8 = .ok (.getfield 488, 3) := dk_180 1 232 (dk_at dksX4_chance_0 8 rfl rfl)
theorem dX4_chance_11 : decode cX4_chance 11 = .ok (.if_icmp .ge 58, 3) := dk_162 0 58 (dk_at dksX4_chance_0 11 rfl rfl)
theorem dX4_chance_14 : decode cX4_chance 14 = .ok (.aload_n 0, 1) := dk_42 (dk_at dksX4_chance_0 14 rfl rfl)
theorem dX4_chance_15 : decode cX4_chance 15 = .ok (.iload 4, 2) := dk_21 4 (dk_at dksX4_chance_0 15 rfl rfl)
theorem dX4_chance_17 : decode cX4_chance 17 = .ok (.iload_n 1, 1) := dk_27 (dk_at dksX4_chance_0 17 rfl rfl)
theorem dX4_chance_18 : decode cX4_chance 18 = .ok (.invokevirtual 654, 3) := dk_182 2 142 (dk_at dksX4_chance_0 18 rfl rfl)
theorem dX4_chance_21 : decode cX4_chance 21 = .ok (.ifCond .ne 6, 3) := dk_154 0 6 (dk_at dksX4_chance_0 21 rfl rfl)
theorem dX4_chance_24 : decode cX4_chance 24 = .ok (.goto 39, 3) := dk_167 0 39 (dk_at dksX4_chance_1 0 rfl rfl)
theorem dX4_chance_27 : decode cX4_chance 27 = .ok (.aload_n 0, 1) := dk_42 (dk_at dksX4_chance_1 3 rfl rfl)
theorem dX4_chance_28 : decode cX4_chance 28 = .ok (.getfield 166, 3) := dk_180 0 166 (dk_at dksX4_chance_1 4 rfl rfl)
theorem dX4_chance_31 : decode cX4_chance 31 = .ok (.iload 4, 2) := dk_21 4 (dk_at dksX4_chance_1 7 rfl rfl)
theorem dX4_chance_33 : decode cX4_chance 33 = .ok (.iaload, 1) := dk_46 (dk_at dksX4_chance_1 9 rfl rfl)
theorem dX4_chance_34 : decode cX4_chance 34 = .ok (.invokestatic 628, 3) := dk_184 2 116 (dk_at dksX4_chance_1 10 rfl rfl)
theorem dX4_chance_37 : decode cX4_chance 37 = .ok (.istore 5, 2) := dk_54 5 (dk_at dksX4_chance_1 13 rfl rfl)
theorem dX4_chance_39 : decode cX4_chance 39 = .ok (.lload_n 2, 1) := dk_32 (dk_at dksX4_chance_1 15 rfl rfl)
theorem dX4_chance_40 : decode cX4_chance 40 = .ok (.iload 5, 2) := dk_21 5 (dk_at dksX4_chance_1 16 rfl rfl)
theorem dX4_chance_42 : decode cX4_chance 42 = .ok (.i2l, 1) := dk_133 (dk_at dksX4_chance_1 18 rfl rfl)
theorem dX4_chance_43 : decode cX4_chance 43 = .ok (.lmul, 1) := dk_105 (dk_at dksX4_chance_1 19 rfl rfl)
theorem dX4_chance_44 : decode cX4_chance 44 = .ok (.ldc2_w 663, 3) := dk_20 2 151 (dk_at dksX4_chance_1 20 rfl rfl)
theorem dX4_chance_47 : decode cX4_chance 47 = .ok (.lcmp, 1) := dk_148 (dk_at dksX4_chance_1 23 rfl rfl)
theorem dX4_chance_48 : decode cX4_chance 48 = .ok (.ifCond .le 9, 3) := dk_158 0 9 (dk_at dksX4_chance_2 0 rfl rfl)
theorem dX4_chance_51 : decode cX4_chance 51 = .ok (.ldc2_w 663, 3) := dk_20 2 151 (dk_at dksX4_chance_2 3 rfl rfl)
theorem dX4_chance_54 : decode cX4_chance 54 = .ok (.goto 8, 3) := dk_167 0 8 (dk_at dksX4_chance_2 6 rfl rfl)
theorem dX4_chance_57 : decode cX4_chance 57 = .ok (.lload_n 2, 1) := dk_32 (dk_at dksX4_chance_2 9 rfl rfl)
theorem dX4_chance_58 : decode cX4_chance 58 = .ok (.iload 5, 2) := dk_21 5 (dk_at dksX4_chance_2 10 rfl rfl)
theorem dX4_chance_60 : decode cX4_chance 60 = .ok (.i2l, 1) := dk_133 (dk_at dksX4_chance_2 12 rfl rfl)
theorem dX4_chance_61 : decode cX4_chance 61 = .ok (.lmul, 1) := dk_105 (dk_at dksX4_chance_2 13 rfl rfl)
theorem dX4_chance_62 : decode cX4_chance 62 = .ok (.lstore_n 2, 1) := dk_65 (dk_at dksX4_chance_2 14 rfl rfl)
theorem dX4_chance_63 : decode cX4_chance 63 = .ok (.iinc 4 1, 3) := dk_132 4 1 (dk_at dksX4_chance_2 15 rfl rfl)
theorem dX4_chance_66 : decode cX4_chance 66 = .ok (.goto (-61), 3) := dk_167 255 195 (dk_at dksX4_chance_2 18 rfl rfl)
theorem dX4_chance_69 : decode cX4_chance 69 = .ok (.lload_n 2, 1) := dk_32 (dk_at dksX4_chance_2 21 rfl rfl)
theorem dX4_chance_70 : decode cX4_chance 70 = .ok (.lreturn, 1) := dk_173 (dk_at dksX4_chance_2 22 rfl rfl)
abbrev cX4_image : ByteArray := prog_23_method_135_code
def yX4_image : MethodName := ⟨RX4, "image", "(I)I"⟩
def dkwX4_image_2 : List UInt8 := [132, 2, 1, 167, 255, 229, 42, 182, 2, 107, 172]
abbrev dktX4_image_2 : List UInt8 := dkwX4_image_2 ++ []
def dkwX4_image_1 : List UInt8 := [16, 123, 162, 0, 27, 42, 180, 0, 181, 17, 0, 128, 27, 104, 28, 96, 42, 180, 0, 121, 28, 46, 79]
abbrev dktX4_image_1 : List UInt8 := dkwX4_image_1 ++ dktX4_image_2
def dkwX4_image_0 : List UInt8 := [27, 184, 2, 153, 154, 0, 5, 2, 172, 42, 180, 0, 178, 27, 4, 84, 42, 182, 2, 54, 3, 61, 28]
abbrev dktX4_image_0 : List UInt8 := dkwX4_image_0 ++ dktX4_image_1
theorem dksX4_image_0 : cX4_image.data.toList.drop 0 = dktX4_image_0 := by decide +kernel
theorem dksX4_image_1 : cX4_image.data.toList.drop 23 = dktX4_image_1 := dk_seg dksX4_image_0 23 rfl rfl
theorem dksX4_image_2 : cX4_image.data.toList.drop 46 = dktX4_image_2 := dk_seg dksX4_image_1 23 rfl rfl
theorem dX4_image_0 : decode cX4_image 0 = .ok (.iload_n 1, 1) := dk_27 (dk_at dksX4_image_0 0 rfl rfl)
theorem dX4_image_1 : decode cX4_image 1 = .ok (.invokestatic 665, 3) := dk_184 2 153 (dk_at dksX4_image_0 1 rfl rfl)
theorem dX4_image_4 : decode cX4_image 4 = .ok (.ifCond .ne 5, 3) := dk_154 0 5 (dk_at dksX4_image_0 4 rfl rfl)
theorem dX4_image_7 : decode cX4_image 7 = .ok (.iconst (-1), 1) := dk_2 (dk_at dksX4_image_0 7 rfl rfl)
theorem dX4_image_8 : decode cX4_image 8 = .ok (.ireturn, 1) := dk_172 (dk_at dksX4_image_0 8 rfl rfl)
theorem dX4_image_9 : decode cX4_image 9 = .ok (.aload_n 0, 1) := dk_42 (dk_at dksX4_image_0 9 rfl rfl)
theorem dX4_image_10 : decode cX4_image 10 = .ok (.getfield 178, 3) := dk_180 0 178 (dk_at dksX4_image_0 10 rfl rfl)
theorem dX4_image_13 : decode cX4_image 13 = .ok (.iload_n 1, 1) := dk_27 (dk_at dksX4_image_0 13 rfl rfl)
theorem dX4_image_14 : decode cX4_image 14 = .ok (.iconst 1, 1) := dk_4 (dk_at dksX4_image_0 14 rfl rfl)
theorem dX4_image_15 : decode cX4_image 15 = .ok (.bastore, 1) := dk_84 (dk_at dksX4_image_0 15 rfl rfl)
theorem dX4_image_16 : decode cX4_image 16 = .ok (.aload_n 0, 1) := dk_42 (dk_at dksX4_image_0 16 rfl rfl)
theorem dX4_image_17 : decode cX4_image 17 = .ok (.invokevirtual 566, 3) := dk_182 2 54 (dk_at dksX4_image_0 17 rfl rfl)
theorem dX4_image_20 : decode cX4_image 20 = .ok (.iconst 0, 1) := dk_3 (dk_at dksX4_image_0 20 rfl rfl)
theorem dX4_image_21 : decode cX4_image 21 = .ok (.istore_n 2, 1) := dk_61 (dk_at dksX4_image_0 21 rfl rfl)
theorem dX4_image_22 : decode cX4_image 22 = .ok (.iload_n 2, 1) := dk_28 (dk_at dksX4_image_0 22 rfl rfl)
theorem dX4_image_23 : decode cX4_image 23 = .ok (.bipush 123, 2) := dk_16 123 (dk_at dksX4_image_1 0 rfl rfl)
theorem dX4_image_25 : decode cX4_image 25 = .ok (.if_icmp .ge 27, 3) := dk_162 0 27 (dk_at dksX4_image_1 2 rfl rfl)
theorem dX4_image_28 : decode cX4_image 28 = .ok (.aload_n 0, 1) := dk_42 (dk_at dksX4_image_1 5 rfl rfl)
theorem dX4_image_29 : decode cX4_image 29 = .ok (.getfield 181, 3) := dk_180 0 181 (dk_at dksX4_image_1 6 rfl rfl)
theorem dX4_image_32 : decode cX4_image 32 = .ok (.sipush 128, 3) := dk_17 0 128 (dk_at dksX4_image_1 9 rfl rfl)
theorem dX4_image_35 : decode cX4_image 35 = .ok (.iload_n 1, 1) := dk_27 (dk_at dksX4_image_1 12 rfl rfl)
theorem dX4_image_36 : decode cX4_image 36 = .ok (.imul, 1) := dk_104 (dk_at dksX4_image_1 13 rfl rfl)
theorem dX4_image_37 : decode cX4_image 37 = .ok (.iload_n 2, 1) := dk_28 (dk_at dksX4_image_1 14 rfl rfl)
theorem dX4_image_38 : decode cX4_image 38 = .ok (.iadd, 1) := dk_96 (dk_at dksX4_image_1 15 rfl rfl)
theorem dX4_image_39 : decode cX4_image 39 = .ok (.aload_n 0, 1) := dk_42 (dk_at dksX4_image_1 16 rfl rfl)
theorem dX4_image_40 : decode cX4_image 40 = .ok (.getfield 121, 3) := dk_180 0 121 (dk_at dksX4_image_1 17 rfl rfl)
theorem dX4_image_43 : decode cX4_image 43 = .ok (.iload_n 2, 1) := dk_28 (dk_at dksX4_image_1 20 rfl rfl)
theorem dX4_image_44 : decode cX4_image 44 = .ok (.iaload, 1) := dk_46 (dk_at dksX4_image_1 21 rfl rfl)
theorem dX4_image_45 : decode cX4_image 45 = .ok (.iastore, 1) := dk_79 (dk_at dksX4_image_1 22 rfl rfl)
theorem dX4_image_46 : decode cX4_image 46 = .ok (.iinc 2 1, 3) := dk_132 2 1 (dk_at dksX4_image_2 0 rfl rfl)
theorem dX4_image_49 : decode cX4_image 49 = .ok (.goto (-27), 3) := dk_167 255 229 (dk_at dksX4_image_2 3 rfl rfl)
theorem dX4_image_52 : decode cX4_image 52 = .ok (.aload_n 0, 1) := dk_42 (dk_at dksX4_image_2 6 rfl rfl)
theorem dX4_image_53 : decode cX4_image 53 = .ok (.invokevirtual 619, 3) := dk_182 2 107 (dk_at dksX4_image_2 7 rfl rfl)
theorem dX4_image_56 : decode cX4_image 56 = .ok (.ireturn, 1) := dk_172 (dk_at dksX4_image_2 10 rfl rfl)
abbrev cX4_isBox : ByteArray := prog_23_method_134_code
def yX4_isBox : MethodName := ⟨RX4, "isBox", "(I)Z"⟩
def dkwX4_isBox_0 : List UInt8 := [26, 155, 0, 12, 26, 6, 162, 0, 7, 4, 167, 0, 4, 3, 172]
abbrev dktX4_isBox_0 : List UInt8 := dkwX4_isBox_0 ++ []
theorem dksX4_isBox_0 : cX4_isBox.data.toList.drop 0 = dktX4_isBox_0 := by decide +kernel
theorem dX4_isBox_0 : decode cX4_isBox 0 = .ok (.iload_n 0, 1) := dk_26 (dk_at dksX4_isBox_0 0 rfl rfl)
theorem dX4_isBox_1 : decode cX4_isBox 1 = .ok (.ifCond .lt 12, 3) := dk_155 0 12 (dk_at dksX4_isBox_0 1 rfl rfl)
theorem dX4_isBox_4 : decode cX4_isBox 4 = .ok (.iload_n 0, 1) := dk_26 (dk_at dksX4_isBox_0 4 rfl rfl)
theorem dX4_isBox_5 : decode cX4_isBox 5 = .ok (.iconst 3, 1) := dk_6 (dk_at dksX4_isBox_0 5 rfl rfl)
theorem dX4_isBox_6 : decode cX4_isBox 6 = .ok (.if_icmp .ge 7, 3) := dk_162 0 7 (dk_at dksX4_isBox_0 6 rfl rfl)
theorem dX4_isBox_9 : decode cX4_isBox 9 = .ok (.iconst 1, 1) := dk_4 (dk_at dksX4_isBox_0 9 rfl rfl)
theorem dX4_isBox_10 : decode cX4_isBox 10 = .ok (.goto 4, 3) := dk_167 0 4 (dk_at dksX4_isBox_0 10 rfl rfl)
theorem dX4_isBox_13 : decode cX4_isBox 13 = .ok (.iconst 0, 1) := dk_3 (dk_at dksX4_isBox_0 13 rfl rfl)
theorem dX4_isBox_14 : decode cX4_isBox 14 = .ok (.ireturn, 1) := dk_172 (dk_at dksX4_isBox_0 14 rfl rfl)
abbrev cX4_back : ByteArray := prog_23_method_136_code
def yX4_back : MethodName := ⟨RX4, "back", "(I)I"⟩
def dkwX4_back_2 : List UInt8 := [167, 255, 229, 42, 3, 181, 1, 226, 42, 3, 181, 1, 229, 42, 182, 2, 54, 42, 182, 2, 107, 172]
abbrev dktX4_back_2 : List UInt8 := dkwX4_back_2 ++ []
def dkwX4_back_1 : List UInt8 := [162, 0, 27, 42, 180, 0, 124, 28, 42, 180, 0, 181, 17, 0, 128, 27, 104, 28, 96, 46, 79, 132, 2, 1]
abbrev dktX4_back_1 : List UInt8 := dkwX4_back_1 ++ dktX4_back_2
def dkwX4_back_0 : List UInt8 := [27, 184, 2, 153, 153, 0, 12, 42, 180, 0, 178, 27, 51, 154, 0, 5, 2, 172, 3, 61, 28, 16, 123]
abbrev dktX4_back_0 : List UInt8 := dkwX4_back_0 ++ dktX4_back_1
theorem dksX4_back_0 : cX4_back.data.toList.drop 0 = dktX4_back_0 := by decide +kernel
theorem dksX4_back_1 : cX4_back.data.toList.drop 23 = dktX4_back_1 := dk_seg dksX4_back_0 23 rfl rfl
theorem dksX4_back_2 : cX4_back.data.toList.drop 47 = dktX4_back_2 := dk_seg dksX4_back_1 24 rfl rfl
theorem dX4_back_0 : decode cX4_back 0 = .ok (.iload_n 1, 1) := dk_27 (dk_at dksX4_back_0 0 rfl rfl)
theorem dX4_back_1 : decode cX4_back 1 = .ok (.invokestatic 665, 3) := dk_184 2 153 (dk_at dksX4_back_0 1 rfl rfl)
theorem dX4_back_4 : decode cX4_back 4 = .ok (.ifCond .eq 12, 3) := dk_153 0 12 (dk_at dksX4_back_0 4 rfl rfl)
theorem dX4_back_7 : decode cX4_back 7 = .ok (.aload_n 0, 1) := dk_42 (dk_at dksX4_back_0 7 rfl rfl)
theorem dX4_back_8 : decode cX4_back 8 = .ok (.getfield 178, 3) := dk_180 0 178 (dk_at dksX4_back_0 8 rfl rfl)
theorem dX4_back_11 : decode cX4_back 11 = .ok (.iload_n 1, 1) := dk_27 (dk_at dksX4_back_0 11 rfl rfl)
theorem dX4_back_12 : decode cX4_back 12 = .ok (.baload, 1) := dk_51 (dk_at dksX4_back_0 12 rfl rfl)
theorem dX4_back_13 : decode cX4_back 13 = .ok (.ifCond .ne 5, 3) := dk_154 0 5 (dk_at dksX4_back_0 13 rfl rfl)
theorem dX4_back_16 : decode cX4_back 16 = .ok (.iconst (-1), 1) := dk_2 (dk_at dksX4_back_0 16 rfl rfl)
theorem dX4_back_17 : decode cX4_back 17 = .ok (.ireturn, 1) := dk_172 (dk_at dksX4_back_0 17 rfl rfl)
theorem dX4_back_18 : decode cX4_back 18 = .ok (.iconst 0, 1) := dk_3 (dk_at dksX4_back_0 18 rfl rfl)
theorem dX4_back_19 : decode cX4_back 19 = .ok (.istore_n 2, 1) := dk_61 (dk_at dksX4_back_0 19 rfl rfl)
theorem dX4_back_20 : decode cX4_back 20 = .ok (.iload_n 2, 1) := dk_28 (dk_at dksX4_back_0 20 rfl rfl)
theorem dX4_back_21 : decode cX4_back 21 = .ok (.bipush 123, 2) := dk_16 123 (dk_at dksX4_back_0 21 rfl rfl)
theorem dX4_back_23 : decode cX4_back 23 = .ok (.if_icmp .ge 27, 3) := dk_162 0 27 (dk_at dksX4_back_1 0 rfl rfl)
theorem dX4_back_26 : decode cX4_back 26 = .ok (.aload_n 0, 1) := dk_42 (dk_at dksX4_back_1 3 rfl rfl)
theorem dX4_back_27 : decode cX4_back 27 = .ok (.getfield 124, 3) := dk_180 0 124 (dk_at dksX4_back_1 4 rfl rfl)
theorem dX4_back_30 : decode cX4_back 30 = .ok (.iload_n 2, 1) := dk_28 (dk_at dksX4_back_1 7 rfl rfl)
theorem dX4_back_31 : decode cX4_back 31 = .ok (.aload_n 0, 1) := dk_42 (dk_at dksX4_back_1 8 rfl rfl)
theorem dX4_back_32 : decode cX4_back 32 = .ok (.getfield 181, 3) := dk_180 0 181 (dk_at dksX4_back_1 9 rfl rfl)
theorem dX4_back_35 : decode cX4_back 35 = .ok (.sipush 128, 3) := dk_17 0 128 (dk_at dksX4_back_1 12 rfl rfl)
theorem dX4_back_38 : decode cX4_back 38 = .ok (.iload_n 1, 1) := dk_27 (dk_at dksX4_back_1 15 rfl rfl)
theorem dX4_back_39 : decode cX4_back 39 = .ok (.imul, 1) := dk_104 (dk_at dksX4_back_1 16 rfl rfl)
theorem dX4_back_40 : decode cX4_back 40 = .ok (.iload_n 2, 1) := dk_28 (dk_at dksX4_back_1 17 rfl rfl)
theorem dX4_back_41 : decode cX4_back 41 = .ok (.iadd, 1) := dk_96 (dk_at dksX4_back_1 18 rfl rfl)
theorem dX4_back_42 : decode cX4_back 42 = .ok (.iaload, 1) := dk_46 (dk_at dksX4_back_1 19 rfl rfl)
theorem dX4_back_43 : decode cX4_back 43 = .ok (.iastore, 1) := dk_79 (dk_at dksX4_back_1 20 rfl rfl)
theorem dX4_back_44 : decode cX4_back 44 = .ok (.iinc 2 1, 3) := dk_132 2 1 (dk_at dksX4_back_1 21 rfl rfl)
theorem dX4_back_47 : decode cX4_back 47 = .ok (.goto (-27), 3) := dk_167 255 229 (dk_at dksX4_back_2 0 rfl rfl)
theorem dX4_back_50 : decode cX4_back 50 = .ok (.aload_n 0, 1) := dk_42 (dk_at dksX4_back_2 3 rfl rfl)
theorem dX4_back_51 : decode cX4_back 51 = .ok (.iconst 0, 1) := dk_3 (dk_at dksX4_back_2 4 rfl rfl)
theorem dX4_back_52 : decode cX4_back 52 = .ok (.putfield 482, 3) := dk_181 1 226 (dk_at dksX4_back_2 5 rfl rfl)
theorem dX4_back_55 : decode cX4_back 55 = .ok (.aload_n 0, 1) := dk_42 (dk_at dksX4_back_2 8 rfl rfl)
theorem dX4_back_56 : decode cX4_back 56 = .ok (.iconst 0, 1) := dk_3 (dk_at dksX4_back_2 9 rfl rfl)
theorem dX4_back_57 : decode cX4_back 57 = .ok (.putfield 485, 3) := dk_181 1 229 (dk_at dksX4_back_2 10 rfl rfl)
theorem dX4_back_60 : decode cX4_back 60 = .ok (.aload_n 0, 1) := dk_42 (dk_at dksX4_back_2 13 rfl rfl)
theorem dX4_back_61 : decode cX4_back 61 = .ok (.invokevirtual 566, 3) := dk_182 2 54 (dk_at dksX4_back_2 14 rfl rfl)
theorem dX4_back_64 : decode cX4_back 64 = .ok (.aload_n 0, 1) := dk_42 (dk_at dksX4_back_2 17 rfl rfl)
theorem dX4_back_65 : decode cX4_back 65 = .ok (.invokevirtual 619, 3) := dk_182 2 107 (dk_at dksX4_back_2 18 rfl rfl)
theorem dX4_back_68 : decode cX4_back 68 = .ok (.ireturn, 1) := dk_172 (dk_at dksX4_back_2 21 rfl rfl)
abbrev cX4_about : ByteArray := prog_23_method_137_code
def yX4_about : MethodName := ⟨RX4, "about", "(I)I"⟩
def dkwX4_about_5 : List UInt8 := [172, 2, 172]
abbrev dktX4_about_5 : List UInt8 := dkwX4_about_5 ++ []
def dkwX4_about_4 : List UInt8 := [42, 180, 1, 232, 172, 42, 180, 2, 138, 172, 42, 180, 0, 184, 172, 42, 180, 1, 217, 172, 42, 180, 1, 235]
abbrev dktX4_about_4 : List UInt8 := dkwX4_about_4 ++ dktX4_about_5
def dkwX4_about_3 : List UInt8 := [172, 42, 180, 1, 208, 172, 42, 180, 0, 124, 16, 62, 46, 172, 42, 180, 1, 226, 172, 42, 180, 1, 229, 172]
abbrev dktX4_about_3 : List UInt8 := dkwX4_about_3 ++ dktX4_about_4
def dkwX4_about_2 : List UInt8 := [42, 180, 1, 199, 172, 42, 180, 1, 202, 172, 42, 180, 1, 211, 172, 42, 182, 2, 107, 172, 42, 180, 1, 214]
abbrev dktX4_about_2 : List UInt8 := dkwX4_about_2 ++ dktX4_about_3
def dkwX4_about_1 : List UInt8 := [170, 0, 0, 0, 0, 0, 144, 0, 0, 0, 0, 0, 0, 0, 13, 0, 0, 0, 71, 0, 0, 0, 76, 0, 0, 0, 81, 0, 0, 0, 86, 0, 0, 0, 91, 0, 0, 0, 96, 0, 0, 0, 101, 0, 0, 0, 109, 0, 0, 0, 114, 0, 0, 0, 119, 0, 0, 0, 124, 0, 0, 0, 129, 0, 0, 0, 134, 0, 0, 0, 139]
abbrev dktX4_about_1 : List UInt8 := dkwX4_about_1 ++ dktX4_about_2
def dkwX4_about_0 : List UInt8 := [42, 182, 2, 54, 27]
abbrev dktX4_about_0 : List UInt8 := dkwX4_about_0 ++ dktX4_about_1
theorem dksX4_about_0 : cX4_about.data.toList.drop 0 = dktX4_about_0 := by decide +kernel
theorem dksX4_about_1 : cX4_about.data.toList.drop 5 = dktX4_about_1 := dk_seg dksX4_about_0 5 rfl rfl
theorem dksX4_about_2 : cX4_about.data.toList.drop 76 = dktX4_about_2 := dk_seg dksX4_about_1 71 rfl rfl
theorem dksX4_about_3 : cX4_about.data.toList.drop 100 = dktX4_about_3 := dk_seg dksX4_about_2 24 rfl rfl
theorem dksX4_about_4 : cX4_about.data.toList.drop 124 = dktX4_about_4 := dk_seg dksX4_about_3 24 rfl rfl
theorem dksX4_about_5 : cX4_about.data.toList.drop 148 = dktX4_about_5 := dk_seg dksX4_about_4 24 rfl rfl
theorem dX4_about_0 : decode cX4_about 0 = .ok (.aload_n 0, 1) := dk_42 (dk_at dksX4_about_0 0 rfl rfl)
theorem dX4_about_1 : decode cX4_about 1 = .ok (.invokevirtual 566, 3) := dk_182 2 54 (dk_at dksX4_about_0 1 rfl rfl)
theorem dX4_about_4 : decode cX4_about 4 = .ok (.iload_n 1, 1) := dk_27 (dk_at dksX4_about_0 4 rfl rfl)
theorem dX4_about_5 : decode cX4_about 5 = .ok (.tableswitch 144 0 13 #[71, 76, 81, 86, 91, 96, 101, 109, 114, 119, 124, 129, 134, 139], 71) := by decide +kernel
theorem dX4_about_76 : decode cX4_about 76 = .ok (.aload_n 0, 1) := dk_42 (dk_at dksX4_about_2 0 rfl rfl)
theorem dX4_about_77 : decode cX4_about 77 = .ok (.getfield 455, 3) := dk_180 1 199 (dk_at dksX4_about_2 1 rfl rfl)
theorem dX4_about_80 : decode cX4_about 80 = .ok (.ireturn, 1) := dk_172 (dk_at dksX4_about_2 4 rfl rfl)
theorem dX4_about_81 : decode cX4_about 81 = .ok (.aload_n 0, 1) := dk_42 (dk_at dksX4_about_2 5 rfl rfl)
theorem dX4_about_82 : decode cX4_about 82 = .ok (.getfield 458, 3) := dk_180 1 202 (dk_at dksX4_about_2 6 rfl rfl)
theorem dX4_about_85 : decode cX4_about 85 = .ok (.ireturn, 1) := dk_172 (dk_at dksX4_about_2 9 rfl rfl)
theorem dX4_about_86 : decode cX4_about 86 = .ok (.aload_n 0, 1) := dk_42 (dk_at dksX4_about_2 10 rfl rfl)
theorem dX4_about_87 : decode cX4_about 87 = .ok (.getfield 467, 3) := dk_180 1 211 (dk_at dksX4_about_2 11 rfl rfl)
theorem dX4_about_90 : decode cX4_about 90 = .ok (.ireturn, 1) := dk_172 (dk_at dksX4_about_2 14 rfl rfl)
theorem dX4_about_91 : decode cX4_about 91 = .ok (.aload_n 0, 1) := dk_42 (dk_at dksX4_about_2 15 rfl rfl)
theorem dX4_about_92 : decode cX4_about 92 = .ok (.invokevirtual 619, 3) := dk_182 2 107 (dk_at dksX4_about_2 16 rfl rfl)
theorem dX4_about_95 : decode cX4_about 95 = .ok (.ireturn, 1) := dk_172 (dk_at dksX4_about_2 19 rfl rfl)
theorem dX4_about_96 : decode cX4_about 96 = .ok (.aload_n 0, 1) := dk_42 (dk_at dksX4_about_2 20 rfl rfl)
theorem dX4_about_97 : decode cX4_about 97 = .ok (.getfield 470, 3) := dk_180 1 214 (dk_at dksX4_about_2 21 rfl rfl)
theorem dX4_about_100 : decode cX4_about 100 = .ok (.ireturn, 1) := dk_172 (dk_at dksX4_about_3 0 rfl rfl)
theorem dX4_about_101 : decode cX4_about 101 = .ok (.aload_n 0, 1) := dk_42 (dk_at dksX4_about_3 1 rfl rfl)
theorem dX4_about_102 : decode cX4_about 102 = .ok (.getfield 464, 3) := dk_180 1 208 (dk_at dksX4_about_3 2 rfl rfl)
theorem dX4_about_105 : decode cX4_about 105 = .ok (.ireturn, 1) := dk_172 (dk_at dksX4_about_3 5 rfl rfl)
theorem dX4_about_106 : decode cX4_about 106 = .ok (.aload_n 0, 1) := dk_42 (dk_at dksX4_about_3 6 rfl rfl)
theorem dX4_about_107 : decode cX4_about 107 = .ok (.getfield 124, 3) := dk_180 0 124 (dk_at dksX4_about_3 7 rfl rfl)
theorem dX4_about_110 : decode cX4_about 110 = .ok (.bipush 62, 2) := dk_16 62 (dk_at dksX4_about_3 10 rfl rfl)
theorem dX4_about_112 : decode cX4_about 112 = .ok (.iaload, 1) := dk_46 (dk_at dksX4_about_3 12 rfl rfl)
theorem dX4_about_113 : decode cX4_about 113 = .ok (.ireturn, 1) := dk_172 (dk_at dksX4_about_3 13 rfl rfl)
theorem dX4_about_114 : decode cX4_about 114 = .ok (.aload_n 0, 1) := dk_42 (dk_at dksX4_about_3 14 rfl rfl)
theorem dX4_about_115 : decode cX4_about 115 = .ok (.getfield 482, 3) := dk_180 1 226 (dk_at dksX4_about_3 15 rfl rfl)
theorem dX4_about_118 : decode cX4_about 118 = .ok (.ireturn, 1) := dk_172 (dk_at dksX4_about_3 18 rfl rfl)
theorem dX4_about_119 : decode cX4_about 119 = .ok (.aload_n 0, 1) := dk_42 (dk_at dksX4_about_3 19 rfl rfl)
theorem dX4_about_120 : decode cX4_about 120 = .ok (.getfield 485, 3) := dk_180 1 229 (dk_at dksX4_about_3 20 rfl rfl)
theorem dX4_about_123 : decode cX4_about 123 = .ok (.ireturn, 1) := dk_172 (dk_at dksX4_about_3 23 rfl rfl)
theorem dX4_about_124 : decode cX4_about 124 = .ok (.aload_n 0, 1) := dk_42 (dk_at dksX4_about_4 0 rfl rfl)
theorem dX4_about_125 : decode cX4_about 125 = .ok (.getfield 488, 3) := dk_180 1 232 (dk_at dksX4_about_4 1 rfl rfl)
theorem dX4_about_128 : decode cX4_about 128 = .ok (.ireturn, 1) := dk_172 (dk_at dksX4_about_4 4 rfl rfl)
theorem dX4_about_129 : decode cX4_about 129 = .ok (.aload_n 0, 1) := dk_42 (dk_at dksX4_about_4 5 rfl rfl)
theorem dX4_about_130 : decode cX4_about 130 = .ok (.getfield 650, 3) := dk_180 2 138 (dk_at dksX4_about_4 6 rfl rfl)
theorem dX4_about_133 : decode cX4_about 133 = .ok (.ireturn, 1) := dk_172 (dk_at dksX4_about_4 9 rfl rfl)
theorem dX4_about_134 : decode cX4_about 134 = .ok (.aload_n 0, 1) := dk_42 (dk_at dksX4_about_4 10 rfl rfl)
theorem dX4_about_135 : decode cX4_about 135 = .ok (.getfield 184, 3) := dk_180 0 184 (dk_at dksX4_about_4 11 rfl rfl)
theorem dX4_about_138 : decode cX4_about 138 = .ok (.ireturn, 1) := dk_172 (dk_at dksX4_about_4 14 rfl rfl)
theorem dX4_about_139 : decode cX4_about 139 = .ok (.aload_n 0, 1) := dk_42 (dk_at dksX4_about_4 15 rfl rfl)
theorem dX4_about_140 : decode cX4_about 140 = .ok (.getfield 473, 3) := dk_180 1 217 (dk_at dksX4_about_4 16 rfl rfl)
theorem dX4_about_143 : decode cX4_about 143 = .ok (.ireturn, 1) := dk_172 (dk_at dksX4_about_4 19 rfl rfl)
theorem dX4_about_144 : decode cX4_about 144 = .ok (.aload_n 0, 1) := dk_42 (dk_at dksX4_about_4 20 rfl rfl)
theorem dX4_about_145 : decode cX4_about 145 = .ok (.getfield 491, 3) := dk_180 1 235 (dk_at dksX4_about_4 21 rfl rfl)
theorem dX4_about_148 : decode cX4_about 148 = .ok (.ireturn, 1) := dk_172 (dk_at dksX4_about_5 0 rfl rfl)
theorem dX4_about_149 : decode cX4_about 149 = .ok (.iconst (-1), 1) := dk_2 (dk_at dksX4_about_5 1 rfl rfl)
theorem dX4_about_150 : decode cX4_about 150 = .ok (.ireturn, 1) := dk_172 (dk_at dksX4_about_5 2 rfl rfl)
theorem q152 : (Jvm.Cond.initialized "TubBitesModel") ∈ lw_all := lw_g (lw_at lw_m1 8 rfl) rfl
theorem q797 : (Jvm.Cond.selects "TubBitesModel" ({ cls := "java/lang/Object", name := "getClass", desc := "()Ljava/lang/Class;" } : Jvm.MethodName) ({ cls := "java/lang/Object", name := "getClass", desc := "()Ljava/lang/Class;" } : Jvm.MethodName)) ∈ lw_all := lw_g (lw_at lw_m3 173 rfl) rfl
theorem q1501 : (Jvm.Cond.instantiable "TubBitesModel" (95 : Nat)) ∈ lw_all := lw_g (lw_at lw_m6 157 rfl) rfl
theorem q1503 : (Jvm.Cond.instanceMethod ({ cls := "TubBitesModel", name := "<init>", desc := "()V" } : Jvm.MethodName)) ∈ lw_all := lw_g (lw_at lw_m6 159 rfl) rfl
theorem q1504 : (Jvm.Cond.code ({ cls := "TubBitesModel", name := "<init>", desc := "()V" } : Jvm.MethodName) prog_23_method_1_code (1 : Nat) (Option.none : Option Jvm.ClassFile.FieldType)) ∈ lw_all := lw_g (lw_at lw_m6 160 rfl) rfl
theorem q1505 : (Jvm.Cond.methodLink "TubBitesModel" (1 : Nat) ({ cls := "java/lang/Object", name := "<init>", desc := "()V" } : Jvm.MethodName)) ∈ lw_all := lw_g (lw_at lw_m6 161 rfl) rfl
theorem q1506 : (Jvm.Cond.fieldLink "TubBitesModel" (7 : Nat) "TubBitesModel" "tape" "[I") ∈ lw_all := lw_g (lw_at lw_m6 162 rfl) rfl
theorem q1507 : (Jvm.Cond.fieldLink "TubBitesModel" (184 : Nat) "TubBitesModel" "taped" "I") ∈ lw_all := lw_g (lw_at lw_m6 163 rfl) rfl
theorem q1508 : (Jvm.Cond.fieldLink "TubBitesModel" (224 : Nat) "TubBitesModel" "fault" "I") ∈ lw_all := lw_g (lw_at lw_m6 164 rfl) rfl
theorem q1509 : (Jvm.Cond.fieldLink "TubBitesModel" (13 : Nat) "TubBitesModel" "faultPlace" "I") ∈ lw_all := lw_g (lw_at lw_m6 165 rfl) rfl
theorem q1510 : (Jvm.Cond.fieldLink "TubBitesModel" (191 : Nat) "TubBitesModel" "at" "I") ∈ lw_all := lw_g (lw_at lw_m6 166 rfl) rfl
theorem q1511 : (Jvm.Cond.fieldLink "TubBitesModel" (194 : Nat) "TubBitesModel" "size" "I") ∈ lw_all := lw_g (lw_at lw_m6 167 rfl) rfl
theorem q1512 : (Jvm.Cond.fieldLink "TubBitesModel" (211 : Nat) "TubBitesModel" "sort" "I") ∈ lw_all := lw_g (lw_at lw_m6 168 rfl) rfl
theorem q1513 : (Jvm.Cond.fieldLink "TubBitesModel" (201 : Nat) "TubBitesModel" "place" "I") ∈ lw_all := lw_g (lw_at lw_m6 169 rfl) rfl
theorem q1514 : (Jvm.Cond.fieldLink "TubBitesModel" (208 : Nat) "TubBitesModel" "number" "I") ∈ lw_all := lw_g (lw_at lw_m6 170 rfl) rfl
theorem q1515 : (Jvm.Cond.fieldLink "TubBitesModel" (204 : Nat) "TubBitesModel" "word" "J") ∈ lw_all := lw_g (lw_at lw_m6 171 rfl) rfl
theorem q1516 : (Jvm.Cond.fieldLink "TubBitesModel" (17 : Nat) "TubBitesModel" "nStep" "[I") ∈ lw_all := lw_g (lw_at lw_m6 172 rfl) rfl
theorem q1517 : (Jvm.Cond.fieldLink "TubBitesModel" (20 : Nat) "TubBitesModel" "nArg" "[I") ∈ lw_all := lw_g (lw_at lw_m6 173 rfl) rfl
theorem q1518 : (Jvm.Cond.fieldLink "TubBitesModel" (23 : Nat) "TubBitesModel" "nMany" "[I") ∈ lw_all := lw_g (lw_at lw_m6 174 rfl) rfl
theorem q1519 : (Jvm.Cond.fieldLink "TubBitesModel" (26 : Nat) "TubBitesModel" "step" "[I") ∈ lw_all := lw_g (lw_at lw_m6 175 rfl) rfl
theorem q1520 : (Jvm.Cond.fieldLink "TubBitesModel" (29 : Nat) "TubBitesModel" "arg" "[I") ∈ lw_all := lw_g (lw_at lw_m6 176 rfl) rfl
theorem q1521 : (Jvm.Cond.fieldLink "TubBitesModel" (32 : Nat) "TubBitesModel" "many" "[I") ∈ lw_all := lw_g (lw_at lw_m6 177 rfl) rfl
theorem q1522 : (Jvm.Cond.fieldLink "TubBitesModel" (35 : Nat) "TubBitesModel" "open" "[I") ∈ lw_all := lw_g (lw_at lw_m6 178 rfl) rfl
theorem q1523 : (Jvm.Cond.fieldLink "TubBitesModel" (38 : Nat) "TubBitesModel" "values" "[I") ∈ lw_all := lw_g (lw_at lw_m6 179 rfl) rfl
theorem q1524 : (Jvm.Cond.fieldLink "TubBitesModel" (301 : Nat) "TubBitesModel" "form" "I") ∈ lw_all := lw_g (lw_at lw_m6 180 rfl) rfl
theorem q1525 : (Jvm.Cond.fieldLink "TubBitesModel" (304 : Nat) "TubBitesModel" "opens" "I") ∈ lw_all := lw_g (lw_at lw_m6 181 rfl) rfl
theorem q1526 : (Jvm.Cond.fieldLink "TubBitesModel" (317 : Nat) "TubBitesModel" "nUnits" "I") ∈ lw_all := lw_g (lw_at lw_m6 182 rfl) rfl
theorem q1527 : (Jvm.Cond.fieldLink "TubBitesModel" (473 : Nat) "TubBitesModel" "units" "I") ∈ lw_all := lw_g (lw_at lw_m6 183 rfl) rfl
theorem q1528 : (Jvm.Cond.fieldLink "TubBitesModel" (320 : Nat) "TubBitesModel" "ownUnits" "I") ∈ lw_all := lw_g (lw_at lw_m6 184 rfl) rfl
theorem q1529 : (Jvm.Cond.fieldLink "TubBitesModel" (314 : Nat) "TubBitesModel" "deep" "I") ∈ lw_all := lw_g (lw_at lw_m6 185 rfl) rfl
theorem q1530 : (Jvm.Cond.fieldLink "TubBitesModel" (41 : Nat) "TubBitesModel" "nName" "[J") ∈ lw_all := lw_g (lw_at lw_m6 186 rfl) rfl
theorem q1531 : (Jvm.Cond.fieldLink "TubBitesModel" (45 : Nat) "TubBitesModel" "nSize" "[I") ∈ lw_all := lw_g (lw_at lw_m6 187 rfl) rfl
theorem q1532 : (Jvm.Cond.fieldLink "TubBitesModel" (48 : Nat) "TubBitesModel" "nSoft" "[I") ∈ lw_all := lw_g (lw_at lw_m6 188 rfl) rfl
theorem q1533 : (Jvm.Cond.fieldLink "TubBitesModel" (51 : Nat) "TubBitesModel" "nX" "[I") ∈ lw_all := lw_g (lw_at lw_m6 189 rfl) rfl
theorem q1534 : (Jvm.Cond.fieldLink "TubBitesModel" (54 : Nat) "TubBitesModel" "nY" "[I") ∈ lw_all := lw_g (lw_at lw_m6 190 rfl) rfl
theorem q1535 : (Jvm.Cond.fieldLink "TubBitesModel" (57 : Nat) "TubBitesModel" "nCoin" "[I") ∈ lw_all := lw_g (lw_at lw_m6 191 rfl) rfl
theorem q1536 : (Jvm.Cond.fieldLink "TubBitesModel" (60 : Nat) "TubBitesModel" "nBobX" "[I") ∈ lw_all := lw_g (lw_at lw_m6 192 rfl) rfl
theorem q1537 : (Jvm.Cond.fieldLink "TubBitesModel" (63 : Nat) "TubBitesModel" "nBobY" "[I") ∈ lw_all := lw_g (lw_at lw_m6 193 rfl) rfl
theorem q1538 : (Jvm.Cond.fieldLink "TubBitesModel" (66 : Nat) "TubBitesModel" "nReach" "[I") ∈ lw_all := lw_g (lw_at lw_m6 194 rfl) rfl
theorem q1539 : (Jvm.Cond.fieldLink "TubBitesModel" (69 : Nat) "TubBitesModel" "nBreath" "[I") ∈ lw_all := lw_g (lw_at lw_m6 195 rfl) rfl
theorem q1540 : (Jvm.Cond.fieldLink "TubBitesModel" (72 : Nat) "TubBitesModel" "nMouth" "[I") ∈ lw_all := lw_g (lw_at lw_m6 196 rfl) rfl
theorem q1541 : (Jvm.Cond.fieldLink "TubBitesModel" (75 : Nat) "TubBitesModel" "nRule" "[I") ∈ lw_all := lw_g (lw_at lw_m6 197 rfl) rfl
theorem q1542 : (Jvm.Cond.fieldLink "TubBitesModel" (78 : Nat) "TubBitesModel" "nStalk" "[Z") ∈ lw_all := lw_g (lw_at lw_m6 198 rfl) rfl
theorem q1543 : (Jvm.Cond.fieldLink "TubBitesModel" (82 : Nat) "TubBitesModel" "apSize" "[I") ∈ lw_all := lw_g (lw_at lw_m6 199 rfl) rfl
theorem q1544 : (Jvm.Cond.fieldLink "TubBitesModel" (85 : Nat) "TubBitesModel" "apSoft" "[I") ∈ lw_all := lw_g (lw_at lw_m6 200 rfl) rfl
theorem q1545 : (Jvm.Cond.fieldLink "TubBitesModel" (88 : Nat) "TubBitesModel" "apX" "[I") ∈ lw_all := lw_g (lw_at lw_m6 201 rfl) rfl
theorem q1546 : (Jvm.Cond.fieldLink "TubBitesModel" (91 : Nat) "TubBitesModel" "apY" "[I") ∈ lw_all := lw_g (lw_at lw_m6 202 rfl) rfl
theorem q1547 : (Jvm.Cond.fieldLink "TubBitesModel" (94 : Nat) "TubBitesModel" "apCoin" "[I") ∈ lw_all := lw_g (lw_at lw_m6 203 rfl) rfl
theorem q1548 : (Jvm.Cond.fieldLink "TubBitesModel" (97 : Nat) "TubBitesModel" "bobX" "[I") ∈ lw_all := lw_g (lw_at lw_m6 204 rfl) rfl
theorem q1549 : (Jvm.Cond.fieldLink "TubBitesModel" (100 : Nat) "TubBitesModel" "bobY" "[I") ∈ lw_all := lw_g (lw_at lw_m6 205 rfl) rfl
theorem q1550 : (Jvm.Cond.fieldLink "TubBitesModel" (103 : Nat) "TubBitesModel" "bobReach" "[I") ∈ lw_all := lw_g (lw_at lw_m6 206 rfl) rfl
theorem q1551 : (Jvm.Cond.fieldLink "TubBitesModel" (106 : Nat) "TubBitesModel" "bobBreath" "[I") ∈ lw_all := lw_g (lw_at lw_m6 207 rfl) rfl
theorem q1552 : (Jvm.Cond.fieldLink "TubBitesModel" (109 : Nat) "TubBitesModel" "bobMouth" "[I") ∈ lw_all := lw_g (lw_at lw_m6 208 rfl) rfl
theorem q1553 : (Jvm.Cond.fieldLink "TubBitesModel" (112 : Nat) "TubBitesModel" "bobRule" "[I") ∈ lw_all := lw_g (lw_at lw_m6 209 rfl) rfl
theorem q1554 : (Jvm.Cond.fieldLink "TubBitesModel" (115 : Nat) "TubBitesModel" "apStalk" "[Z") ∈ lw_all := lw_g (lw_at lw_m6 210 rfl) rfl
theorem q1555 : (Jvm.Cond.fieldLink "TubBitesModel" (382 : Nat) "TubBitesModel" "nAcross" "I") ∈ lw_all := lw_g (lw_at lw_m6 211 rfl) rfl
theorem q1556 : (Jvm.Cond.fieldLink "TubBitesModel" (385 : Nat) "TubBitesModel" "nUp" "I") ∈ lw_all := lw_g (lw_at lw_m6 212 rfl) rfl
theorem q1557 : (Jvm.Cond.fieldLink "TubBitesModel" (388 : Nat) "TubBitesModel" "nOdds" "I") ∈ lw_all := lw_g (lw_at lw_m6 213 rfl) rfl
theorem q1558 : (Jvm.Cond.fieldLink "TubBitesModel" (394 : Nat) "TubBitesModel" "nRules" "I") ∈ lw_all := lw_g (lw_at lw_m6 214 rfl) rfl
theorem q1559 : (Jvm.Cond.fieldLink "TubBitesModel" (400 : Nat) "TubBitesModel" "nApples" "I") ∈ lw_all := lw_g (lw_at lw_m6 215 rfl) rfl
theorem q1560 : (Jvm.Cond.fieldLink "TubBitesModel" (409 : Nat) "TubBitesModel" "nBobbers" "I") ∈ lw_all := lw_g (lw_at lw_m6 216 rfl) rfl
theorem q1561 : (Jvm.Cond.fieldLink "TubBitesModel" (419 : Nat) "TubBitesModel" "nDraw" "I") ∈ lw_all := lw_g (lw_at lw_m6 217 rfl) rfl
theorem q1562 : (Jvm.Cond.fieldLink "TubBitesModel" (455 : Nat) "TubBitesModel" "across" "I") ∈ lw_all := lw_g (lw_at lw_m6 218 rfl) rfl
theorem q1563 : (Jvm.Cond.fieldLink "TubBitesModel" (458 : Nat) "TubBitesModel" "up" "I") ∈ lw_all := lw_g (lw_at lw_m6 219 rfl) rfl
theorem q1564 : (Jvm.Cond.fieldLink "TubBitesModel" (461 : Nat) "TubBitesModel" "oddsTold" "I") ∈ lw_all := lw_g (lw_at lw_m6 220 rfl) rfl
theorem q1565 : (Jvm.Cond.fieldLink "TubBitesModel" (464 : Nat) "TubBitesModel" "rules" "I") ∈ lw_all := lw_g (lw_at lw_m6 221 rfl) rfl
theorem q1566 : (Jvm.Cond.fieldLink "TubBitesModel" (467 : Nat) "TubBitesModel" "apples" "I") ∈ lw_all := lw_g (lw_at lw_m6 222 rfl) rfl
theorem q1567 : (Jvm.Cond.fieldLink "TubBitesModel" (470 : Nat) "TubBitesModel" "bobbers" "I") ∈ lw_all := lw_g (lw_at lw_m6 223 rfl) rfl
theorem q1568 : (Jvm.Cond.fieldLink "TubBitesModel" (415 : Nat) "TubBitesModel" "nHasDraw" "Z") ∈ lw_all := lw_g (lw_at lw_m6 224 rfl) rfl
theorem q1569 : (Jvm.Cond.fieldLink "TubBitesModel" (422 : Nat) "TubBitesModel" "nHasBite" "Z") ∈ lw_all := lw_g (lw_at lw_m6 225 rfl) rfl
theorem q1570 : (Jvm.Cond.fieldLink "TubBitesModel" (425 : Nat) "TubBitesModel" "nBite" "I") ∈ lw_all := lw_g (lw_at lw_m6 226 rfl) rfl
theorem q1571 : (Jvm.Cond.fieldLink "TubBitesModel" (118 : Nat) "TubBitesModel" "bite" "I") ∈ lw_all := lw_g (lw_at lw_m6 227 rfl) rfl
theorem q1572 : (Jvm.Cond.fieldLink "TubBitesModel" (121 : Nat) "TubBitesModel" "w" "[I") ∈ lw_all := lw_g (lw_at lw_m6 228 rfl) rfl
theorem q1573 : (Jvm.Cond.fieldLink "TubBitesModel" (124 : Nat) "TubBitesModel" "now" "[I") ∈ lw_all := lw_g (lw_at lw_m6 229 rfl) rfl
theorem q1574 : (Jvm.Cond.fieldLink "TubBitesModel" (514 : Nat) "TubBitesModel" "sx" "I") ∈ lw_all := lw_g (lw_at lw_m6 230 rfl) rfl
theorem q1575 : (Jvm.Cond.fieldLink "TubBitesModel" (517 : Nat) "TubBitesModel" "sy" "I") ∈ lw_all := lw_g (lw_at lw_m6 231 rfl) rfl
theorem q1576 : (Jvm.Cond.fieldLink "TubBitesModel" (127 : Nat) "TubBitesModel" "were" "[I") ∈ lw_all := lw_g (lw_at lw_m6 232 rfl) rfl
theorem q1577 : (Jvm.Cond.fieldLink "TubBitesModel" (482 : Nat) "TubBitesModel" "acts" "I") ∈ lw_all := lw_g (lw_at lw_m6 233 rfl) rfl
theorem q1578 : (Jvm.Cond.fieldLink "TubBitesModel" (485 : Nat) "TubBitesModel" "undone" "I") ∈ lw_all := lw_g (lw_at lw_m6 234 rfl) rfl
theorem q1579 : (Jvm.Cond.fieldLink "TubBitesModel" (130 : Nat) "TubBitesModel" "rows" "[I") ∈ lw_all := lw_g (lw_at lw_m6 235 rfl) rfl
theorem q1580 : (Jvm.Cond.fieldLink "TubBitesModel" (133 : Nat) "TubBitesModel" "left" "[I") ∈ lw_all := lw_g (lw_at lw_m6 236 rfl) rfl
theorem q1581 : (Jvm.Cond.fieldLink "TubBitesModel" (136 : Nat) "TubBitesModel" "way" "[I") ∈ lw_all := lw_g (lw_at lw_m6 237 rfl) rfl
theorem q1582 : (Jvm.Cond.fieldLink "TubBitesModel" (139 : Nat) "TubBitesModel" "phase" "[I") ∈ lw_all := lw_g (lw_at lw_m6 238 rfl) rfl
theorem q1583 : (Jvm.Cond.fieldLink "TubBitesModel" (142 : Nat) "TubBitesModel" "gotten" "[I") ∈ lw_all := lw_g (lw_at lw_m6 239 rfl) rfl
theorem q1584 : (Jvm.Cond.fieldLink "TubBitesModel" (145 : Nat) "TubBitesModel" "most" "[I") ∈ lw_all := lw_g (lw_at lw_m7 0 rfl) rfl
theorem q1585 : (Jvm.Cond.fieldLink "TubBitesModel" (148 : Nat) "TubBitesModel" "first" "[I") ∈ lw_all := lw_g (lw_at lw_m7 1 rfl) rfl
theorem q1586 : (Jvm.Cond.fieldLink "TubBitesModel" (590 : Nat) "TubBitesModel" "looks" "I") ∈ lw_all := lw_g (lw_at lw_m7 2 rfl) rfl
theorem q1587 : (Jvm.Cond.fieldLink "TubBitesModel" (151 : Nat) "TubBitesModel" "turn" "[I") ∈ lw_all := lw_g (lw_at lw_m7 3 rfl) rfl
theorem q1588 : (Jvm.Cond.fieldLink "TubBitesModel" (154 : Nat) "TubBitesModel" "driven" "[I") ∈ lw_all := lw_g (lw_at lw_m7 4 rfl) rfl
theorem q1589 : (Jvm.Cond.fieldLink "TubBitesModel" (157 : Nat) "TubBitesModel" "lies" "[I") ∈ lw_all := lw_g (lw_at lw_m7 5 rfl) rfl
theorem q1590 : (Jvm.Cond.fieldLink "TubBitesModel" (160 : Nat) "TubBitesModel" "matches" "[I") ∈ lw_all := lw_g (lw_at lw_m7 6 rfl) rfl
theorem q1591 : (Jvm.Cond.fieldLink "TubBitesModel" (491 : Nat) "TubBitesModel" "lain" "I") ∈ lw_all := lw_g (lw_at lw_m7 7 rfl) rfl
theorem q1592 : (Jvm.Cond.fieldLink "TubBitesModel" (163 : Nat) "TubBitesModel" "pickBob" "[I") ∈ lw_all := lw_g (lw_at lw_m7 8 rfl) rfl
theorem q1593 : (Jvm.Cond.fieldLink "TubBitesModel" (166 : Nat) "TubBitesModel" "pickSet" "[I") ∈ lw_all := lw_g (lw_at lw_m7 9 rfl) rfl
theorem q1594 : (Jvm.Cond.fieldLink "TubBitesModel" (169 : Nat) "TubBitesModel" "pickTaken" "[I") ∈ lw_all := lw_g (lw_at lw_m7 10 rfl) rfl
theorem q1595 : (Jvm.Cond.fieldLink "TubBitesModel" (172 : Nat) "TubBitesModel" "pickTold" "[I") ∈ lw_all := lw_g (lw_at lw_m7 11 rfl) rfl
theorem q1596 : (Jvm.Cond.fieldLink "TubBitesModel" (175 : Nat) "TubBitesModel" "pickUntold" "[I") ∈ lw_all := lw_g (lw_at lw_m7 12 rfl) rfl
theorem q1597 : (Jvm.Cond.fieldLink "TubBitesModel" (488 : Nat) "TubBitesModel" "picks" "I") ∈ lw_all := lw_g (lw_at lw_m7 13 rfl) rfl
theorem q1598 : (Jvm.Cond.fieldLink "TubBitesModel" (650 : Nat) "TubBitesModel" "time" "I") ∈ lw_all := lw_g (lw_at lw_m7 14 rfl) rfl
theorem q1599 : (Jvm.Cond.fieldLink "TubBitesModel" (178 : Nat) "TubBitesModel" "hasBox" "[Z") ∈ lw_all := lw_g (lw_at lw_m7 15 rfl) rfl
theorem q1600 : (Jvm.Cond.fieldLink "TubBitesModel" (181 : Nat) "TubBitesModel" "boxes" "[I") ∈ lw_all := lw_g (lw_at lw_m7 16 rfl) rfl
theorem q1601 : (Jvm.Cond.laysFinal "TubBitesModel" "TubBitesModel" "tape" "[I") ∈ lw_all := lw_g (lw_at lw_m7 17 rfl) rfl
theorem q1602 : (Jvm.Cond.soleField "TubBitesModel" "tape") ∈ lw_all := lw_g (lw_at lw_m7 18 rfl) rfl
theorem q1603 : (Jvm.Cond.lays "TubBitesModel" "TubBitesModel" "taped" "I") ∈ lw_all := lw_g (lw_at lw_m7 19 rfl) rfl
theorem q1604 : (Jvm.Cond.soleField "TubBitesModel" "taped") ∈ lw_all := lw_g (lw_at lw_m7 20 rfl) rfl
theorem q1605 : (Jvm.Cond.lays "TubBitesModel" "TubBitesModel" "fault" "I") ∈ lw_all := lw_g (lw_at lw_m7 21 rfl) rfl
theorem q1606 : (Jvm.Cond.soleField "TubBitesModel" "fault") ∈ lw_all := lw_g (lw_at lw_m7 22 rfl) rfl
theorem q1607 : (Jvm.Cond.lays "TubBitesModel" "TubBitesModel" "faultPlace" "I") ∈ lw_all := lw_g (lw_at lw_m7 23 rfl) rfl
theorem q1608 : (Jvm.Cond.soleField "TubBitesModel" "faultPlace") ∈ lw_all := lw_g (lw_at lw_m7 24 rfl) rfl
theorem q1609 : (Jvm.Cond.lays "TubBitesModel" "TubBitesModel" "at" "I") ∈ lw_all := lw_g (lw_at lw_m7 25 rfl) rfl
theorem q1610 : (Jvm.Cond.soleField "TubBitesModel" "at") ∈ lw_all := lw_g (lw_at lw_m7 26 rfl) rfl
theorem q1611 : (Jvm.Cond.lays "TubBitesModel" "TubBitesModel" "size" "I") ∈ lw_all := lw_g (lw_at lw_m7 27 rfl) rfl
theorem q1612 : (Jvm.Cond.soleField "TubBitesModel" "size") ∈ lw_all := lw_g (lw_at lw_m7 28 rfl) rfl
theorem q1613 : (Jvm.Cond.lays "TubBitesModel" "TubBitesModel" "sort" "I") ∈ lw_all := lw_g (lw_at lw_m7 29 rfl) rfl
theorem q1614 : (Jvm.Cond.soleField "TubBitesModel" "sort") ∈ lw_all := lw_g (lw_at lw_m7 30 rfl) rfl
theorem q1615 : (Jvm.Cond.lays "TubBitesModel" "TubBitesModel" "place" "I") ∈ lw_all := lw_g (lw_at lw_m7 31 rfl) rfl
theorem q1616 : (Jvm.Cond.soleField "TubBitesModel" "place") ∈ lw_all := lw_g (lw_at lw_m7 32 rfl) rfl
theorem q1617 : (Jvm.Cond.lays "TubBitesModel" "TubBitesModel" "number" "I") ∈ lw_all := lw_g (lw_at lw_m7 33 rfl) rfl
theorem q1618 : (Jvm.Cond.soleField "TubBitesModel" "number") ∈ lw_all := lw_g (lw_at lw_m7 34 rfl) rfl
theorem q1619 : (Jvm.Cond.lays "TubBitesModel" "TubBitesModel" "word" "J") ∈ lw_all := lw_g (lw_at lw_m7 35 rfl) rfl
theorem q1620 : (Jvm.Cond.soleField "TubBitesModel" "word") ∈ lw_all := lw_g (lw_at lw_m7 36 rfl) rfl
theorem q1621 : (Jvm.Cond.laysFinal "TubBitesModel" "TubBitesModel" "nStep" "[I") ∈ lw_all := lw_g (lw_at lw_m7 37 rfl) rfl
theorem q1622 : (Jvm.Cond.soleField "TubBitesModel" "nStep") ∈ lw_all := lw_g (lw_at lw_m7 38 rfl) rfl
theorem q1623 : (Jvm.Cond.laysFinal "TubBitesModel" "TubBitesModel" "nArg" "[I") ∈ lw_all := lw_g (lw_at lw_m7 39 rfl) rfl
theorem q1624 : (Jvm.Cond.soleField "TubBitesModel" "nArg") ∈ lw_all := lw_g (lw_at lw_m7 40 rfl) rfl
theorem q1625 : (Jvm.Cond.laysFinal "TubBitesModel" "TubBitesModel" "nMany" "[I") ∈ lw_all := lw_g (lw_at lw_m7 41 rfl) rfl
theorem q1626 : (Jvm.Cond.soleField "TubBitesModel" "nMany") ∈ lw_all := lw_g (lw_at lw_m7 42 rfl) rfl
theorem q1627 : (Jvm.Cond.laysFinal "TubBitesModel" "TubBitesModel" "step" "[I") ∈ lw_all := lw_g (lw_at lw_m7 43 rfl) rfl
theorem q1628 : (Jvm.Cond.soleField "TubBitesModel" "step") ∈ lw_all := lw_g (lw_at lw_m7 44 rfl) rfl
theorem q1629 : (Jvm.Cond.laysFinal "TubBitesModel" "TubBitesModel" "arg" "[I") ∈ lw_all := lw_g (lw_at lw_m7 45 rfl) rfl
theorem q1630 : (Jvm.Cond.soleField "TubBitesModel" "arg") ∈ lw_all := lw_g (lw_at lw_m7 46 rfl) rfl
theorem q1631 : (Jvm.Cond.laysFinal "TubBitesModel" "TubBitesModel" "many" "[I") ∈ lw_all := lw_g (lw_at lw_m7 47 rfl) rfl
theorem q1632 : (Jvm.Cond.soleField "TubBitesModel" "many") ∈ lw_all := lw_g (lw_at lw_m7 48 rfl) rfl
theorem q1633 : (Jvm.Cond.laysFinal "TubBitesModel" "TubBitesModel" "open" "[I") ∈ lw_all := lw_g (lw_at lw_m7 49 rfl) rfl
theorem q1634 : (Jvm.Cond.soleField "TubBitesModel" "open") ∈ lw_all := lw_g (lw_at lw_m7 50 rfl) rfl
theorem q1635 : (Jvm.Cond.laysFinal "TubBitesModel" "TubBitesModel" "values" "[I") ∈ lw_all := lw_g (lw_at lw_m7 51 rfl) rfl
theorem q1636 : (Jvm.Cond.soleField "TubBitesModel" "values") ∈ lw_all := lw_g (lw_at lw_m7 52 rfl) rfl
theorem q1637 : (Jvm.Cond.lays "TubBitesModel" "TubBitesModel" "form" "I") ∈ lw_all := lw_g (lw_at lw_m7 53 rfl) rfl
theorem q1638 : (Jvm.Cond.soleField "TubBitesModel" "form") ∈ lw_all := lw_g (lw_at lw_m7 54 rfl) rfl
theorem q1639 : (Jvm.Cond.lays "TubBitesModel" "TubBitesModel" "opens" "I") ∈ lw_all := lw_g (lw_at lw_m7 55 rfl) rfl
theorem q1640 : (Jvm.Cond.soleField "TubBitesModel" "opens") ∈ lw_all := lw_g (lw_at lw_m7 56 rfl) rfl
theorem q1641 : (Jvm.Cond.lays "TubBitesModel" "TubBitesModel" "nUnits" "I") ∈ lw_all := lw_g (lw_at lw_m7 57 rfl) rfl
theorem q1642 : (Jvm.Cond.soleField "TubBitesModel" "nUnits") ∈ lw_all := lw_g (lw_at lw_m7 58 rfl) rfl
theorem q1643 : (Jvm.Cond.lays "TubBitesModel" "TubBitesModel" "units" "I") ∈ lw_all := lw_g (lw_at lw_m7 59 rfl) rfl
theorem q1644 : (Jvm.Cond.soleField "TubBitesModel" "units") ∈ lw_all := lw_g (lw_at lw_m7 60 rfl) rfl
theorem q1645 : (Jvm.Cond.lays "TubBitesModel" "TubBitesModel" "ownUnits" "I") ∈ lw_all := lw_g (lw_at lw_m7 61 rfl) rfl
theorem q1646 : (Jvm.Cond.soleField "TubBitesModel" "ownUnits") ∈ lw_all := lw_g (lw_at lw_m7 62 rfl) rfl
theorem q1647 : (Jvm.Cond.lays "TubBitesModel" "TubBitesModel" "deep" "I") ∈ lw_all := lw_g (lw_at lw_m7 63 rfl) rfl
theorem q1648 : (Jvm.Cond.soleField "TubBitesModel" "deep") ∈ lw_all := lw_g (lw_at lw_m7 64 rfl) rfl
theorem q1649 : (Jvm.Cond.laysFinal "TubBitesModel" "TubBitesModel" "nName" "[J") ∈ lw_all := lw_g (lw_at lw_m7 65 rfl) rfl
theorem q1650 : (Jvm.Cond.soleField "TubBitesModel" "nName") ∈ lw_all := lw_g (lw_at lw_m7 66 rfl) rfl
theorem q1651 : (Jvm.Cond.laysFinal "TubBitesModel" "TubBitesModel" "nSize" "[I") ∈ lw_all := lw_g (lw_at lw_m7 67 rfl) rfl
theorem q1652 : (Jvm.Cond.soleField "TubBitesModel" "nSize") ∈ lw_all := lw_g (lw_at lw_m7 68 rfl) rfl
theorem q1653 : (Jvm.Cond.laysFinal "TubBitesModel" "TubBitesModel" "nSoft" "[I") ∈ lw_all := lw_g (lw_at lw_m7 69 rfl) rfl
theorem q1654 : (Jvm.Cond.soleField "TubBitesModel" "nSoft") ∈ lw_all := lw_g (lw_at lw_m7 70 rfl) rfl
theorem q1655 : (Jvm.Cond.laysFinal "TubBitesModel" "TubBitesModel" "nX" "[I") ∈ lw_all := lw_g (lw_at lw_m7 71 rfl) rfl
theorem q1656 : (Jvm.Cond.soleField "TubBitesModel" "nX") ∈ lw_all := lw_g (lw_at lw_m7 72 rfl) rfl
theorem q1657 : (Jvm.Cond.laysFinal "TubBitesModel" "TubBitesModel" "nY" "[I") ∈ lw_all := lw_g (lw_at lw_m7 73 rfl) rfl
theorem q1658 : (Jvm.Cond.soleField "TubBitesModel" "nY") ∈ lw_all := lw_g (lw_at lw_m7 74 rfl) rfl
theorem q1659 : (Jvm.Cond.laysFinal "TubBitesModel" "TubBitesModel" "nCoin" "[I") ∈ lw_all := lw_g (lw_at lw_m7 75 rfl) rfl
theorem q1660 : (Jvm.Cond.soleField "TubBitesModel" "nCoin") ∈ lw_all := lw_g (lw_at lw_m7 76 rfl) rfl
theorem q1661 : (Jvm.Cond.laysFinal "TubBitesModel" "TubBitesModel" "nBobX" "[I") ∈ lw_all := lw_g (lw_at lw_m7 77 rfl) rfl
theorem q1662 : (Jvm.Cond.soleField "TubBitesModel" "nBobX") ∈ lw_all := lw_g (lw_at lw_m7 78 rfl) rfl
theorem q1663 : (Jvm.Cond.laysFinal "TubBitesModel" "TubBitesModel" "nBobY" "[I") ∈ lw_all := lw_g (lw_at lw_m7 79 rfl) rfl
theorem q1664 : (Jvm.Cond.soleField "TubBitesModel" "nBobY") ∈ lw_all := lw_g (lw_at lw_m7 80 rfl) rfl
theorem q1665 : (Jvm.Cond.laysFinal "TubBitesModel" "TubBitesModel" "nReach" "[I") ∈ lw_all := lw_g (lw_at lw_m7 81 rfl) rfl
theorem q1666 : (Jvm.Cond.soleField "TubBitesModel" "nReach") ∈ lw_all := lw_g (lw_at lw_m7 82 rfl) rfl
theorem q1667 : (Jvm.Cond.laysFinal "TubBitesModel" "TubBitesModel" "nBreath" "[I") ∈ lw_all := lw_g (lw_at lw_m7 83 rfl) rfl
theorem q1668 : (Jvm.Cond.soleField "TubBitesModel" "nBreath") ∈ lw_all := lw_g (lw_at lw_m7 84 rfl) rfl
theorem q1669 : (Jvm.Cond.laysFinal "TubBitesModel" "TubBitesModel" "nMouth" "[I") ∈ lw_all := lw_g (lw_at lw_m7 85 rfl) rfl
theorem q1670 : (Jvm.Cond.soleField "TubBitesModel" "nMouth") ∈ lw_all := lw_g (lw_at lw_m7 86 rfl) rfl
theorem q1671 : (Jvm.Cond.laysFinal "TubBitesModel" "TubBitesModel" "nRule" "[I") ∈ lw_all := lw_g (lw_at lw_m7 87 rfl) rfl
theorem q1672 : (Jvm.Cond.soleField "TubBitesModel" "nRule") ∈ lw_all := lw_g (lw_at lw_m7 88 rfl) rfl
theorem q1673 : (Jvm.Cond.laysFinal "TubBitesModel" "TubBitesModel" "nStalk" "[Z") ∈ lw_all := lw_g (lw_at lw_m7 89 rfl) rfl
theorem q1674 : (Jvm.Cond.soleField "TubBitesModel" "nStalk") ∈ lw_all := lw_g (lw_at lw_m7 90 rfl) rfl
theorem q1675 : (Jvm.Cond.laysFinal "TubBitesModel" "TubBitesModel" "apSize" "[I") ∈ lw_all := lw_g (lw_at lw_m7 91 rfl) rfl
theorem q1676 : (Jvm.Cond.soleField "TubBitesModel" "apSize") ∈ lw_all := lw_g (lw_at lw_m7 92 rfl) rfl
theorem q1677 : (Jvm.Cond.laysFinal "TubBitesModel" "TubBitesModel" "apSoft" "[I") ∈ lw_all := lw_g (lw_at lw_m7 93 rfl) rfl
theorem q1678 : (Jvm.Cond.soleField "TubBitesModel" "apSoft") ∈ lw_all := lw_g (lw_at lw_m7 94 rfl) rfl
theorem q1679 : (Jvm.Cond.laysFinal "TubBitesModel" "TubBitesModel" "apX" "[I") ∈ lw_all := lw_g (lw_at lw_m7 95 rfl) rfl
theorem q1680 : (Jvm.Cond.soleField "TubBitesModel" "apX") ∈ lw_all := lw_g (lw_at lw_m7 96 rfl) rfl
theorem q1681 : (Jvm.Cond.laysFinal "TubBitesModel" "TubBitesModel" "apY" "[I") ∈ lw_all := lw_g (lw_at lw_m7 97 rfl) rfl
theorem q1682 : (Jvm.Cond.soleField "TubBitesModel" "apY") ∈ lw_all := lw_g (lw_at lw_m7 98 rfl) rfl
theorem q1683 : (Jvm.Cond.laysFinal "TubBitesModel" "TubBitesModel" "apCoin" "[I") ∈ lw_all := lw_g (lw_at lw_m7 99 rfl) rfl
theorem q1684 : (Jvm.Cond.soleField "TubBitesModel" "apCoin") ∈ lw_all := lw_g (lw_at lw_m7 100 rfl) rfl
theorem q1685 : (Jvm.Cond.laysFinal "TubBitesModel" "TubBitesModel" "bobX" "[I") ∈ lw_all := lw_g (lw_at lw_m7 101 rfl) rfl
theorem q1686 : (Jvm.Cond.soleField "TubBitesModel" "bobX") ∈ lw_all := lw_g (lw_at lw_m7 102 rfl) rfl
theorem q1687 : (Jvm.Cond.laysFinal "TubBitesModel" "TubBitesModel" "bobY" "[I") ∈ lw_all := lw_g (lw_at lw_m7 103 rfl) rfl
theorem q1688 : (Jvm.Cond.soleField "TubBitesModel" "bobY") ∈ lw_all := lw_g (lw_at lw_m7 104 rfl) rfl
theorem q1689 : (Jvm.Cond.laysFinal "TubBitesModel" "TubBitesModel" "bobReach" "[I") ∈ lw_all := lw_g (lw_at lw_m7 105 rfl) rfl
theorem q1690 : (Jvm.Cond.soleField "TubBitesModel" "bobReach") ∈ lw_all := lw_g (lw_at lw_m7 106 rfl) rfl
theorem q1691 : (Jvm.Cond.laysFinal "TubBitesModel" "TubBitesModel" "bobBreath" "[I") ∈ lw_all := lw_g (lw_at lw_m7 107 rfl) rfl
theorem q1692 : (Jvm.Cond.soleField "TubBitesModel" "bobBreath") ∈ lw_all := lw_g (lw_at lw_m7 108 rfl) rfl
theorem q1693 : (Jvm.Cond.laysFinal "TubBitesModel" "TubBitesModel" "bobMouth" "[I") ∈ lw_all := lw_g (lw_at lw_m7 109 rfl) rfl
theorem q1694 : (Jvm.Cond.soleField "TubBitesModel" "bobMouth") ∈ lw_all := lw_g (lw_at lw_m7 110 rfl) rfl
theorem q1695 : (Jvm.Cond.laysFinal "TubBitesModel" "TubBitesModel" "bobRule" "[I") ∈ lw_all := lw_g (lw_at lw_m7 111 rfl) rfl
theorem q1696 : (Jvm.Cond.soleField "TubBitesModel" "bobRule") ∈ lw_all := lw_g (lw_at lw_m7 112 rfl) rfl
theorem q1697 : (Jvm.Cond.laysFinal "TubBitesModel" "TubBitesModel" "apStalk" "[Z") ∈ lw_all := lw_g (lw_at lw_m7 113 rfl) rfl
theorem q1698 : (Jvm.Cond.soleField "TubBitesModel" "apStalk") ∈ lw_all := lw_g (lw_at lw_m7 114 rfl) rfl
theorem q1699 : (Jvm.Cond.lays "TubBitesModel" "TubBitesModel" "nAcross" "I") ∈ lw_all := lw_g (lw_at lw_m7 115 rfl) rfl
theorem q1700 : (Jvm.Cond.soleField "TubBitesModel" "nAcross") ∈ lw_all := lw_g (lw_at lw_m7 116 rfl) rfl
theorem q1701 : (Jvm.Cond.lays "TubBitesModel" "TubBitesModel" "nUp" "I") ∈ lw_all := lw_g (lw_at lw_m7 117 rfl) rfl
theorem q1702 : (Jvm.Cond.soleField "TubBitesModel" "nUp") ∈ lw_all := lw_g (lw_at lw_m7 118 rfl) rfl
theorem q1703 : (Jvm.Cond.lays "TubBitesModel" "TubBitesModel" "nOdds" "I") ∈ lw_all := lw_g (lw_at lw_m7 119 rfl) rfl
theorem q1704 : (Jvm.Cond.soleField "TubBitesModel" "nOdds") ∈ lw_all := lw_g (lw_at lw_m7 120 rfl) rfl
theorem q1705 : (Jvm.Cond.lays "TubBitesModel" "TubBitesModel" "nRules" "I") ∈ lw_all := lw_g (lw_at lw_m7 121 rfl) rfl
theorem q1706 : (Jvm.Cond.soleField "TubBitesModel" "nRules") ∈ lw_all := lw_g (lw_at lw_m7 122 rfl) rfl
theorem q1707 : (Jvm.Cond.lays "TubBitesModel" "TubBitesModel" "nApples" "I") ∈ lw_all := lw_g (lw_at lw_m7 123 rfl) rfl
theorem q1708 : (Jvm.Cond.soleField "TubBitesModel" "nApples") ∈ lw_all := lw_g (lw_at lw_m7 124 rfl) rfl
theorem q1709 : (Jvm.Cond.lays "TubBitesModel" "TubBitesModel" "nBobbers" "I") ∈ lw_all := lw_g (lw_at lw_m7 125 rfl) rfl
theorem q1710 : (Jvm.Cond.soleField "TubBitesModel" "nBobbers") ∈ lw_all := lw_g (lw_at lw_m7 126 rfl) rfl
theorem q1711 : (Jvm.Cond.lays "TubBitesModel" "TubBitesModel" "nDraw" "I") ∈ lw_all := lw_g (lw_at lw_m7 127 rfl) rfl
theorem q1712 : (Jvm.Cond.soleField "TubBitesModel" "nDraw") ∈ lw_all := lw_g (lw_at lw_m7 128 rfl) rfl
theorem q1713 : (Jvm.Cond.lays "TubBitesModel" "TubBitesModel" "across" "I") ∈ lw_all := lw_g (lw_at lw_m7 129 rfl) rfl
theorem q1714 : (Jvm.Cond.soleField "TubBitesModel" "across") ∈ lw_all := lw_g (lw_at lw_m7 130 rfl) rfl
theorem q1715 : (Jvm.Cond.lays "TubBitesModel" "TubBitesModel" "up" "I") ∈ lw_all := lw_g (lw_at lw_m7 131 rfl) rfl
theorem q1716 : (Jvm.Cond.soleField "TubBitesModel" "up") ∈ lw_all := lw_g (lw_at lw_m7 132 rfl) rfl
theorem q1717 : (Jvm.Cond.lays "TubBitesModel" "TubBitesModel" "oddsTold" "I") ∈ lw_all := lw_g (lw_at lw_m7 133 rfl) rfl
theorem q1718 : (Jvm.Cond.soleField "TubBitesModel" "oddsTold") ∈ lw_all := lw_g (lw_at lw_m7 134 rfl) rfl
theorem q1719 : (Jvm.Cond.lays "TubBitesModel" "TubBitesModel" "rules" "I") ∈ lw_all := lw_g (lw_at lw_m7 135 rfl) rfl
theorem q1720 : (Jvm.Cond.soleField "TubBitesModel" "rules") ∈ lw_all := lw_g (lw_at lw_m7 136 rfl) rfl
theorem q1721 : (Jvm.Cond.lays "TubBitesModel" "TubBitesModel" "apples" "I") ∈ lw_all := lw_g (lw_at lw_m7 137 rfl) rfl
theorem q1722 : (Jvm.Cond.soleField "TubBitesModel" "apples") ∈ lw_all := lw_g (lw_at lw_m7 138 rfl) rfl
theorem q1723 : (Jvm.Cond.lays "TubBitesModel" "TubBitesModel" "bobbers" "I") ∈ lw_all := lw_g (lw_at lw_m7 139 rfl) rfl
theorem q1724 : (Jvm.Cond.soleField "TubBitesModel" "bobbers") ∈ lw_all := lw_g (lw_at lw_m7 140 rfl) rfl
theorem q1725 : (Jvm.Cond.lays "TubBitesModel" "TubBitesModel" "nHasDraw" "Z") ∈ lw_all := lw_g (lw_at lw_m7 141 rfl) rfl
theorem q1726 : (Jvm.Cond.soleField "TubBitesModel" "nHasDraw") ∈ lw_all := lw_g (lw_at lw_m7 142 rfl) rfl
theorem q1727 : (Jvm.Cond.lays "TubBitesModel" "TubBitesModel" "nHasBite" "Z") ∈ lw_all := lw_g (lw_at lw_m7 143 rfl) rfl
theorem q1728 : (Jvm.Cond.soleField "TubBitesModel" "nHasBite") ∈ lw_all := lw_g (lw_at lw_m7 144 rfl) rfl
theorem q1729 : (Jvm.Cond.lays "TubBitesModel" "TubBitesModel" "nBite" "I") ∈ lw_all := lw_g (lw_at lw_m7 145 rfl) rfl
theorem q1730 : (Jvm.Cond.soleField "TubBitesModel" "nBite") ∈ lw_all := lw_g (lw_at lw_m7 146 rfl) rfl
theorem q1731 : (Jvm.Cond.lays "TubBitesModel" "TubBitesModel" "bite" "I") ∈ lw_all := lw_g (lw_at lw_m7 147 rfl) rfl
theorem q1732 : (Jvm.Cond.soleField "TubBitesModel" "bite") ∈ lw_all := lw_g (lw_at lw_m7 148 rfl) rfl
theorem q1733 : (Jvm.Cond.laysFinal "TubBitesModel" "TubBitesModel" "w" "[I") ∈ lw_all := lw_g (lw_at lw_m7 149 rfl) rfl
theorem q1734 : (Jvm.Cond.soleField "TubBitesModel" "w") ∈ lw_all := lw_g (lw_at lw_m7 150 rfl) rfl
theorem q1735 : (Jvm.Cond.laysFinal "TubBitesModel" "TubBitesModel" "now" "[I") ∈ lw_all := lw_g (lw_at lw_m7 151 rfl) rfl
theorem q1736 : (Jvm.Cond.soleField "TubBitesModel" "now") ∈ lw_all := lw_g (lw_at lw_m7 152 rfl) rfl
theorem q1737 : (Jvm.Cond.lays "TubBitesModel" "TubBitesModel" "sx" "I") ∈ lw_all := lw_g (lw_at lw_m7 153 rfl) rfl
theorem q1738 : (Jvm.Cond.soleField "TubBitesModel" "sx") ∈ lw_all := lw_g (lw_at lw_m7 154 rfl) rfl
theorem q1739 : (Jvm.Cond.lays "TubBitesModel" "TubBitesModel" "sy" "I") ∈ lw_all := lw_g (lw_at lw_m7 155 rfl) rfl
theorem q1740 : (Jvm.Cond.soleField "TubBitesModel" "sy") ∈ lw_all := lw_g (lw_at lw_m7 156 rfl) rfl
theorem q1741 : (Jvm.Cond.laysFinal "TubBitesModel" "TubBitesModel" "were" "[I") ∈ lw_all := lw_g (lw_at lw_m7 157 rfl) rfl
theorem q1742 : (Jvm.Cond.soleField "TubBitesModel" "were") ∈ lw_all := lw_g (lw_at lw_m7 158 rfl) rfl
theorem q1743 : (Jvm.Cond.lays "TubBitesModel" "TubBitesModel" "acts" "I") ∈ lw_all := lw_g (lw_at lw_m7 159 rfl) rfl
theorem q1744 : (Jvm.Cond.soleField "TubBitesModel" "acts") ∈ lw_all := lw_g (lw_at lw_m7 160 rfl) rfl
theorem q1745 : (Jvm.Cond.lays "TubBitesModel" "TubBitesModel" "undone" "I") ∈ lw_all := lw_g (lw_at lw_m7 161 rfl) rfl
theorem q1746 : (Jvm.Cond.soleField "TubBitesModel" "undone") ∈ lw_all := lw_g (lw_at lw_m7 162 rfl) rfl
theorem q1747 : (Jvm.Cond.laysFinal "TubBitesModel" "TubBitesModel" "rows" "[I") ∈ lw_all := lw_g (lw_at lw_m7 163 rfl) rfl
theorem q1748 : (Jvm.Cond.soleField "TubBitesModel" "rows") ∈ lw_all := lw_g (lw_at lw_m7 164 rfl) rfl
theorem q1749 : (Jvm.Cond.laysFinal "TubBitesModel" "TubBitesModel" "left" "[I") ∈ lw_all := lw_g (lw_at lw_m7 165 rfl) rfl
theorem q1750 : (Jvm.Cond.soleField "TubBitesModel" "left") ∈ lw_all := lw_g (lw_at lw_m7 166 rfl) rfl
theorem q1751 : (Jvm.Cond.laysFinal "TubBitesModel" "TubBitesModel" "way" "[I") ∈ lw_all := lw_g (lw_at lw_m7 167 rfl) rfl
theorem q1752 : (Jvm.Cond.soleField "TubBitesModel" "way") ∈ lw_all := lw_g (lw_at lw_m7 168 rfl) rfl
theorem q1753 : (Jvm.Cond.laysFinal "TubBitesModel" "TubBitesModel" "phase" "[I") ∈ lw_all := lw_g (lw_at lw_m7 169 rfl) rfl
theorem q1754 : (Jvm.Cond.soleField "TubBitesModel" "phase") ∈ lw_all := lw_g (lw_at lw_m7 170 rfl) rfl
theorem q1755 : (Jvm.Cond.laysFinal "TubBitesModel" "TubBitesModel" "gotten" "[I") ∈ lw_all := lw_g (lw_at lw_m7 171 rfl) rfl
theorem q1756 : (Jvm.Cond.soleField "TubBitesModel" "gotten") ∈ lw_all := lw_g (lw_at lw_m7 172 rfl) rfl
theorem q1757 : (Jvm.Cond.laysFinal "TubBitesModel" "TubBitesModel" "most" "[I") ∈ lw_all := lw_g (lw_at lw_m7 173 rfl) rfl
theorem q1758 : (Jvm.Cond.soleField "TubBitesModel" "most") ∈ lw_all := lw_g (lw_at lw_m7 174 rfl) rfl
theorem q1759 : (Jvm.Cond.laysFinal "TubBitesModel" "TubBitesModel" "first" "[I") ∈ lw_all := lw_g (lw_at lw_m7 175 rfl) rfl
theorem q1760 : (Jvm.Cond.soleField "TubBitesModel" "first") ∈ lw_all := lw_g (lw_at lw_m7 176 rfl) rfl
theorem q1761 : (Jvm.Cond.lays "TubBitesModel" "TubBitesModel" "looks" "I") ∈ lw_all := lw_g (lw_at lw_m7 177 rfl) rfl
theorem q1762 : (Jvm.Cond.soleField "TubBitesModel" "looks") ∈ lw_all := lw_g (lw_at lw_m7 178 rfl) rfl
theorem q1763 : (Jvm.Cond.laysFinal "TubBitesModel" "TubBitesModel" "turn" "[I") ∈ lw_all := lw_g (lw_at lw_m7 179 rfl) rfl
theorem q1764 : (Jvm.Cond.soleField "TubBitesModel" "turn") ∈ lw_all := lw_g (lw_at lw_m7 180 rfl) rfl
theorem q1765 : (Jvm.Cond.laysFinal "TubBitesModel" "TubBitesModel" "driven" "[I") ∈ lw_all := lw_g (lw_at lw_m7 181 rfl) rfl
theorem q1766 : (Jvm.Cond.soleField "TubBitesModel" "driven") ∈ lw_all := lw_g (lw_at lw_m7 182 rfl) rfl
theorem q1767 : (Jvm.Cond.laysFinal "TubBitesModel" "TubBitesModel" "lies" "[I") ∈ lw_all := lw_g (lw_at lw_m7 183 rfl) rfl
theorem q1768 : (Jvm.Cond.soleField "TubBitesModel" "lies") ∈ lw_all := lw_g (lw_at lw_m7 184 rfl) rfl
theorem q1769 : (Jvm.Cond.laysFinal "TubBitesModel" "TubBitesModel" "matches" "[I") ∈ lw_all := lw_g (lw_at lw_m7 185 rfl) rfl
theorem q1770 : (Jvm.Cond.soleField "TubBitesModel" "matches") ∈ lw_all := lw_g (lw_at lw_m7 186 rfl) rfl
theorem q1771 : (Jvm.Cond.lays "TubBitesModel" "TubBitesModel" "lain" "I") ∈ lw_all := lw_g (lw_at lw_m7 187 rfl) rfl
theorem q1772 : (Jvm.Cond.soleField "TubBitesModel" "lain") ∈ lw_all := lw_g (lw_at lw_m7 188 rfl) rfl
theorem q1773 : (Jvm.Cond.laysFinal "TubBitesModel" "TubBitesModel" "pickBob" "[I") ∈ lw_all := lw_g (lw_at lw_m7 189 rfl) rfl
theorem q1774 : (Jvm.Cond.soleField "TubBitesModel" "pickBob") ∈ lw_all := lw_g (lw_at lw_m7 190 rfl) rfl
theorem q1775 : (Jvm.Cond.laysFinal "TubBitesModel" "TubBitesModel" "pickSet" "[I") ∈ lw_all := lw_g (lw_at lw_m7 191 rfl) rfl
theorem q1776 : (Jvm.Cond.soleField "TubBitesModel" "pickSet") ∈ lw_all := lw_g (lw_at lw_m7 192 rfl) rfl
theorem q1777 : (Jvm.Cond.laysFinal "TubBitesModel" "TubBitesModel" "pickTaken" "[I") ∈ lw_all := lw_g (lw_at lw_m7 193 rfl) rfl
theorem q1778 : (Jvm.Cond.soleField "TubBitesModel" "pickTaken") ∈ lw_all := lw_g (lw_at lw_m7 194 rfl) rfl
theorem q1779 : (Jvm.Cond.laysFinal "TubBitesModel" "TubBitesModel" "pickTold" "[I") ∈ lw_all := lw_g (lw_at lw_m7 195 rfl) rfl
theorem q1780 : (Jvm.Cond.soleField "TubBitesModel" "pickTold") ∈ lw_all := lw_g (lw_at lw_m7 196 rfl) rfl
theorem q1781 : (Jvm.Cond.laysFinal "TubBitesModel" "TubBitesModel" "pickUntold" "[I") ∈ lw_all := lw_g (lw_at lw_m7 197 rfl) rfl
theorem q1782 : (Jvm.Cond.soleField "TubBitesModel" "pickUntold") ∈ lw_all := lw_g (lw_at lw_m7 198 rfl) rfl
theorem q1783 : (Jvm.Cond.lays "TubBitesModel" "TubBitesModel" "picks" "I") ∈ lw_all := lw_g (lw_at lw_m7 199 rfl) rfl
theorem q1784 : (Jvm.Cond.soleField "TubBitesModel" "picks") ∈ lw_all := lw_g (lw_at lw_m7 200 rfl) rfl
theorem q1785 : (Jvm.Cond.lays "TubBitesModel" "TubBitesModel" "time" "I") ∈ lw_all := lw_g (lw_at lw_m7 201 rfl) rfl
theorem q1786 : (Jvm.Cond.soleField "TubBitesModel" "time") ∈ lw_all := lw_g (lw_at lw_m7 202 rfl) rfl
theorem q1787 : (Jvm.Cond.laysFinal "TubBitesModel" "TubBitesModel" "hasBox" "[Z") ∈ lw_all := lw_g (lw_at lw_m7 203 rfl) rfl
theorem q1788 : (Jvm.Cond.soleField "TubBitesModel" "hasBox") ∈ lw_all := lw_g (lw_at lw_m7 204 rfl) rfl
theorem q1789 : (Jvm.Cond.laysFinal "TubBitesModel" "TubBitesModel" "boxes" "[I") ∈ lw_all := lw_g (lw_at lw_m7 205 rfl) rfl
theorem q1790 : (Jvm.Cond.soleField "TubBitesModel" "boxes") ∈ lw_all := lw_g (lw_at lw_m7 206 rfl) rfl
theorem q1791 : (Jvm.Cond.superclass "TubBitesModel" "java/lang/Object") ∈ lw_all := lw_g (lw_at lw_m7 207 rfl) rfl
theorem q1795 : (Jvm.Cond.instanceMethod ({ cls := "TubBitesModel", name := "feed", desc := "(IIIII)I" } : Jvm.MethodName)) ∈ lw_all := lw_g (lw_at lw_m7 211 rfl) rfl
theorem q1796 : (Jvm.Cond.selects "TubBitesModel" ({ cls := "TubBitesModel", name := "feed", desc := "(IIIII)I" } : Jvm.MethodName) ({ cls := "TubBitesModel", name := "feed", desc := "(IIIII)I" } : Jvm.MethodName)) ∈ lw_all := lw_g (lw_at lw_m7 212 rfl) rfl
theorem q1797 : (Jvm.Cond.code ({ cls := "TubBitesModel", name := "feed", desc := "(IIIII)I" } : Jvm.MethodName) prog_23_method_2_code (6 : Nat) (Option.some Jvm.ClassFile.FieldType.int)) ∈ lw_all := lw_g (lw_at lw_m7 213 rfl) rfl
theorem q1798 : (Jvm.Cond.methodLink "TubBitesModel" (187 : Nat) ({ cls := "TubBitesModel", name := "four", desc := "(I)V" } : Jvm.MethodName)) ∈ lw_all := lw_g (lw_at lw_m7 214 rfl) rfl
theorem q1799 : (Jvm.Cond.privateMethod ({ cls := "TubBitesModel", name := "four", desc := "(I)V" } : Jvm.MethodName)) ∈ lw_tbl := lw_at lw_m7 215 rfl
theorem q1800 : (Jvm.Cond.instanceMethod ({ cls := "TubBitesModel", name := "four", desc := "(I)V" } : Jvm.MethodName)) ∈ lw_all := lw_g (lw_at lw_m7 216 rfl) rfl
theorem q1801 : (Jvm.Cond.code ({ cls := "TubBitesModel", name := "four", desc := "(I)V" } : Jvm.MethodName) prog_23_method_3_code (3 : Nat) (Option.none : Option Jvm.ClassFile.FieldType)) ∈ lw_all := lw_g (lw_at lw_m7 217 rfl) rfl
theorem q1803 : (Jvm.Cond.instanceMethod ({ cls := "TubBitesModel", name := "end", desc := "(I)I" } : Jvm.MethodName)) ∈ lw_all := lw_g (lw_at lw_m7 219 rfl) rfl
theorem q1804 : (Jvm.Cond.selects "TubBitesModel" ({ cls := "TubBitesModel", name := "end", desc := "(I)I" } : Jvm.MethodName) ({ cls := "TubBitesModel", name := "end", desc := "(I)I" } : Jvm.MethodName)) ∈ lw_all := lw_g (lw_at lw_m7 220 rfl) rfl
theorem q1805 : (Jvm.Cond.code ({ cls := "TubBitesModel", name := "end", desc := "(I)I" } : Jvm.MethodName) prog_23_method_4_code (2 : Nat) (Option.some Jvm.ClassFile.FieldType.int)) ∈ lw_all := lw_g (lw_at lw_m7 221 rfl) rfl
theorem q1807 : (Jvm.Cond.instanceMethod ({ cls := "TubBitesModel", name := "tub", desc := "()I" } : Jvm.MethodName)) ∈ lw_all := lw_g (lw_at lw_m7 223 rfl) rfl
theorem q1808 : (Jvm.Cond.selects "TubBitesModel" ({ cls := "TubBitesModel", name := "tub", desc := "()I" } : Jvm.MethodName) ({ cls := "TubBitesModel", name := "tub", desc := "()I" } : Jvm.MethodName)) ∈ lw_all := lw_g (lw_at lw_m7 224 rfl) rfl
theorem q1809 : (Jvm.Cond.code ({ cls := "TubBitesModel", name := "tub", desc := "()I" } : Jvm.MethodName) prog_23_method_48_code (3 : Nat) (Option.some Jvm.ClassFile.FieldType.int)) ∈ lw_all := lw_g (lw_at lw_m7 225 rfl) rfl
theorem q1810 : (Jvm.Cond.methodLink "TubBitesModel" (452 : Nat) ({ cls := "TubBitesModel", name := "readAll", desc := "()V" } : Jvm.MethodName)) ∈ lw_all := lw_g (lw_at lw_m7 226 rfl) rfl
theorem q1811 : (Jvm.Cond.privateMethod ({ cls := "TubBitesModel", name := "readAll", desc := "()V" } : Jvm.MethodName)) ∈ lw_tbl := lw_at lw_m7 227 rfl
theorem q1812 : (Jvm.Cond.instanceMethod ({ cls := "TubBitesModel", name := "readAll", desc := "()V" } : Jvm.MethodName)) ∈ lw_all := lw_g (lw_at lw_m7 228 rfl) rfl
theorem q1813 : (Jvm.Cond.code ({ cls := "TubBitesModel", name := "readAll", desc := "()V" } : Jvm.MethodName) prog_23_method_47_code (1 : Nat) (Option.none : Option Jvm.ClassFile.FieldType)) ∈ lw_all := lw_g (lw_at lw_m7 229 rfl) rfl
theorem q1814 : (Jvm.Cond.methodLink "TubBitesModel" (287 : Nat) ({ cls := "TubBitesModel", name := "token", desc := "()V" } : Jvm.MethodName)) ∈ lw_all := lw_g (lw_at lw_m7 230 rfl) rfl
theorem q1815 : (Jvm.Cond.privateMethod ({ cls := "TubBitesModel", name := "token", desc := "()V" } : Jvm.MethodName)) ∈ lw_tbl := lw_at lw_m7 231 rfl
theorem q1816 : (Jvm.Cond.instanceMethod ({ cls := "TubBitesModel", name := "token", desc := "()V" } : Jvm.MethodName)) ∈ lw_all := lw_g (lw_at lw_m7 232 rfl) rfl
theorem q1817 : (Jvm.Cond.code ({ cls := "TubBitesModel", name := "token", desc := "()V" } : Jvm.MethodName) prog_23_method_9_code (3 : Nat) (Option.none : Option Jvm.ClassFile.FieldType)) ∈ lw_all := lw_g (lw_at lw_m7 233 rfl) rfl
theorem q1818 : (Jvm.Cond.methodLink "TubBitesModel" (197 : Nat) ({ cls := "TubBitesModel", name := "here", desc := "(I)I" } : Jvm.MethodName)) ∈ lw_all := lw_g (lw_at lw_m7 234 rfl) rfl
theorem q1819 : (Jvm.Cond.privateMethod ({ cls := "TubBitesModel", name := "here", desc := "(I)I" } : Jvm.MethodName)) ∈ lw_tbl := lw_at lw_m7 235 rfl
theorem q1820 : (Jvm.Cond.instanceMethod ({ cls := "TubBitesModel", name := "here", desc := "(I)I" } : Jvm.MethodName)) ∈ lw_all := lw_g (lw_at lw_m7 236 rfl) rfl
theorem q1821 : (Jvm.Cond.code ({ cls := "TubBitesModel", name := "here", desc := "(I)I" } : Jvm.MethodName) prog_23_method_5_code (2 : Nat) (Option.some Jvm.ClassFile.FieldType.int)) ∈ lw_all := lw_g (lw_at lw_m7 237 rfl) rfl
theorem q1822 : (Jvm.Cond.methodLink "TubBitesModel" (214 : Nat) ({ cls := "TubBitesModel", name := "isLetter", desc := "(I)Z" } : Jvm.MethodName)) ∈ lw_all := lw_g (lw_at lw_m7 238 rfl) rfl
theorem q1823 : (Jvm.Cond.static ({ cls := "TubBitesModel", name := "isLetter", desc := "(I)Z" } : Jvm.MethodName)) ∈ lw_all := lw_g (lw_at lw_m7 239 rfl) rfl
theorem q1824 : (Jvm.Cond.code ({ cls := "TubBitesModel", name := "isLetter", desc := "(I)Z" } : Jvm.MethodName) prog_23_method_6_code (1 : Nat) (Option.some Jvm.ClassFile.FieldType.boolean)) ∈ lw_all := lw_g (lw_at lw_m8 0 rfl) rfl
theorem q1825 : (Jvm.Cond.methodLink "TubBitesModel" (218 : Nat) ({ cls := "TubBitesModel", name := "isDigit", desc := "(I)Z" } : Jvm.MethodName)) ∈ lw_all := lw_g (lw_at lw_m8 1 rfl) rfl
theorem q1826 : (Jvm.Cond.static ({ cls := "TubBitesModel", name := "isDigit", desc := "(I)Z" } : Jvm.MethodName)) ∈ lw_all := lw_g (lw_at lw_m8 2 rfl) rfl
theorem q1827 : (Jvm.Cond.code ({ cls := "TubBitesModel", name := "isDigit", desc := "(I)Z" } : Jvm.MethodName) prog_23_method_7_code (1 : Nat) (Option.some Jvm.ClassFile.FieldType.boolean)) ∈ lw_all := lw_g (lw_at lw_m8 3 rfl) rfl
theorem q1828 : (Jvm.Cond.methodLink "TubBitesModel" (221 : Nat) ({ cls := "TubBitesModel", name := "isSign", desc := "(I)Z" } : Jvm.MethodName)) ∈ lw_all := lw_g (lw_at lw_m8 4 rfl) rfl
theorem q1829 : (Jvm.Cond.static ({ cls := "TubBitesModel", name := "isSign", desc := "(I)Z" } : Jvm.MethodName)) ∈ lw_all := lw_g (lw_at lw_m8 5 rfl) rfl
theorem q1830 : (Jvm.Cond.code ({ cls := "TubBitesModel", name := "isSign", desc := "(I)Z" } : Jvm.MethodName) prog_23_method_8_code (1 : Nat) (Option.some Jvm.ClassFile.FieldType.boolean)) ∈ lw_all := lw_g (lw_at lw_m8 6 rfl) rfl
theorem q1831 : (Jvm.Cond.methodLink "TubBitesModel" (449 : Nat) ({ cls := "TubBitesModel", name := "readLine", desc := "()V" } : Jvm.MethodName)) ∈ lw_all := lw_g (lw_at lw_m8 7 rfl) rfl
theorem q1832 : (Jvm.Cond.privateMethod ({ cls := "TubBitesModel", name := "readLine", desc := "()V" } : Jvm.MethodName)) ∈ lw_tbl := lw_at lw_m8 8 rfl
theorem q1833 : (Jvm.Cond.instanceMethod ({ cls := "TubBitesModel", name := "readLine", desc := "()V" } : Jvm.MethodName)) ∈ lw_all := lw_g (lw_at lw_m8 9 rfl) rfl
theorem q1834 : (Jvm.Cond.code ({ cls := "TubBitesModel", name := "readLine", desc := "()V" } : Jvm.MethodName) prog_23_method_46_code (1 : Nat) (Option.none : Option Jvm.ClassFile.FieldType)) ∈ lw_all := lw_g (lw_at lw_m8 10 rfl) rfl
theorem q1835 : (Jvm.Cond.constantLong "TubBitesModel" (227 : Nat) (7632226 : Int64)) ∈ lw_all := lw_g (lw_at lw_m8 11 rfl) rfl
theorem q1836 : (Jvm.Cond.methodLink "TubBitesModel" (283 : Nat) ({ cls := "TubBitesModel", name := "isWord", desc := "(J)Z" } : Jvm.MethodName)) ∈ lw_all := lw_g (lw_at lw_m8 12 rfl) rfl
theorem q1837 : (Jvm.Cond.privateMethod ({ cls := "TubBitesModel", name := "isWord", desc := "(J)Z" } : Jvm.MethodName)) ∈ lw_tbl := lw_at lw_m8 13 rfl
theorem q1838 : (Jvm.Cond.instanceMethod ({ cls := "TubBitesModel", name := "isWord", desc := "(J)Z" } : Jvm.MethodName)) ∈ lw_all := lw_g (lw_at lw_m8 14 rfl) rfl
theorem q1839 : (Jvm.Cond.code ({ cls := "TubBitesModel", name := "isWord", desc := "(J)Z" } : Jvm.MethodName) prog_23_method_12_code (3 : Nat) (Option.some Jvm.ClassFile.FieldType.boolean)) ∈ lw_all := lw_g (lw_at lw_m8 15 rfl) rfl
theorem q1840 : (Jvm.Cond.methodLink "TubBitesModel" (428 : Nat) ({ cls := "TubBitesModel", name := "readTub", desc := "()V" } : Jvm.MethodName)) ∈ lw_all := lw_g (lw_at lw_m8 16 rfl) rfl
theorem q1841 : (Jvm.Cond.privateMethod ({ cls := "TubBitesModel", name := "readTub", desc := "()V" } : Jvm.MethodName)) ∈ lw_tbl := lw_at lw_m8 17 rfl
theorem q1842 : (Jvm.Cond.instanceMethod ({ cls := "TubBitesModel", name := "readTub", desc := "()V" } : Jvm.MethodName)) ∈ lw_all := lw_g (lw_at lw_m8 18 rfl) rfl
theorem q1843 : (Jvm.Cond.code ({ cls := "TubBitesModel", name := "readTub", desc := "()V" } : Jvm.MethodName) prog_23_method_38_code (1 : Nat) (Option.none : Option Jvm.ClassFile.FieldType)) ∈ lw_all := lw_g (lw_at lw_m8 19 rfl) rfl
theorem q1844 : (Jvm.Cond.methodLink "TubBitesModel" (378 : Nat) ({ cls := "TubBitesModel", name := "told", desc := "(JII)I" } : Jvm.MethodName)) ∈ lw_all := lw_g (lw_at lw_m8 20 rfl) rfl
theorem q1845 : (Jvm.Cond.privateMethod ({ cls := "TubBitesModel", name := "told", desc := "(JII)I" } : Jvm.MethodName)) ∈ lw_tbl := lw_at lw_m8 21 rfl
theorem q1846 : (Jvm.Cond.instanceMethod ({ cls := "TubBitesModel", name := "told", desc := "(JII)I" } : Jvm.MethodName)) ∈ lw_all := lw_g (lw_at lw_m8 22 rfl) rfl
theorem q1847 : (Jvm.Cond.code ({ cls := "TubBitesModel", name := "told", desc := "(JII)I" } : Jvm.MethodName) prog_23_method_18_code (5 : Nat) (Option.some Jvm.ClassFile.FieldType.int)) ∈ lw_all := lw_g (lw_at lw_m8 23 rfl) rfl
theorem q1848 : (Jvm.Cond.methodLink "TubBitesModel" (293 : Nat) ({ cls := "TubBitesModel", name := "want", desc := "(J)V" } : Jvm.MethodName)) ∈ lw_all := lw_g (lw_at lw_m8 24 rfl) rfl
theorem q1849 : (Jvm.Cond.privateMethod ({ cls := "TubBitesModel", name := "want", desc := "(J)V" } : Jvm.MethodName)) ∈ lw_tbl := lw_at lw_m8 25 rfl
theorem q1850 : (Jvm.Cond.instanceMethod ({ cls := "TubBitesModel", name := "want", desc := "(J)V" } : Jvm.MethodName)) ∈ lw_all := lw_g (lw_at lw_m8 26 rfl) rfl
theorem q1851 : (Jvm.Cond.code ({ cls := "TubBitesModel", name := "want", desc := "(J)V" } : Jvm.MethodName) prog_23_method_16_code (3 : Nat) (Option.none : Option Jvm.ClassFile.FieldType)) ∈ lw_all := lw_g (lw_at lw_m8 27 rfl) rfl
theorem q1852 : (Jvm.Cond.methodLink "TubBitesModel" (290 : Nat) ({ cls := "TubBitesModel", name := "wrong", desc := "(I)V" } : Jvm.MethodName)) ∈ lw_all := lw_g (lw_at lw_m8 28 rfl) rfl
theorem q1853 : (Jvm.Cond.privateMethod ({ cls := "TubBitesModel", name := "wrong", desc := "(I)V" } : Jvm.MethodName)) ∈ lw_tbl := lw_at lw_m8 29 rfl
theorem q1854 : (Jvm.Cond.instanceMethod ({ cls := "TubBitesModel", name := "wrong", desc := "(I)V" } : Jvm.MethodName)) ∈ lw_all := lw_g (lw_at lw_m8 30 rfl) rfl
theorem q1855 : (Jvm.Cond.code ({ cls := "TubBitesModel", name := "wrong", desc := "(I)V" } : Jvm.MethodName) prog_23_method_10_code (2 : Nat) (Option.none : Option Jvm.ClassFile.FieldType)) ∈ lw_all := lw_g (lw_at lw_m8 31 rfl) rfl
theorem q1856 : (Jvm.Cond.methodLink "TubBitesModel" (297 : Nat) ({ cls := "TubBitesModel", name := "toldNumber", desc := "(II)I" } : Jvm.MethodName)) ∈ lw_all := lw_g (lw_at lw_m8 32 rfl) rfl
theorem q1857 : (Jvm.Cond.privateMethod ({ cls := "TubBitesModel", name := "toldNumber", desc := "(II)I" } : Jvm.MethodName)) ∈ lw_tbl := lw_at lw_m8 33 rfl
theorem q1858 : (Jvm.Cond.instanceMethod ({ cls := "TubBitesModel", name := "toldNumber", desc := "(II)I" } : Jvm.MethodName)) ∈ lw_all := lw_g (lw_at lw_m8 34 rfl) rfl
theorem q1859 : (Jvm.Cond.code ({ cls := "TubBitesModel", name := "toldNumber", desc := "(II)I" } : Jvm.MethodName) prog_23_method_17_code (4 : Nat) (Option.some Jvm.ClassFile.FieldType.int)) ∈ lw_all := lw_g (lw_at lw_m8 35 rfl) rfl
theorem q1860 : (Jvm.Cond.constantLong "TubBitesModel" (229 : Nat) (25209 : Int64)) ∈ lw_all := lw_g (lw_at lw_m8 36 rfl) rfl
theorem q1861 : (Jvm.Cond.constantLong "TubBitesModel" (231 : Nat) (1868850291 : Int64)) ∈ lw_all := lw_g (lw_at lw_m8 37 rfl) rfl
theorem q1862 : (Jvm.Cond.methodLink "TubBitesModel" (431 : Nat) ({ cls := "TubBitesModel", name := "readOdds", desc := "()V" } : Jvm.MethodName)) ∈ lw_all := lw_g (lw_at lw_m8 38 rfl) rfl
theorem q1863 : (Jvm.Cond.privateMethod ({ cls := "TubBitesModel", name := "readOdds", desc := "()V" } : Jvm.MethodName)) ∈ lw_tbl := lw_at lw_m8 39 rfl
theorem q1864 : (Jvm.Cond.instanceMethod ({ cls := "TubBitesModel", name := "readOdds", desc := "()V" } : Jvm.MethodName)) ∈ lw_all := lw_g (lw_at lw_m8 40 rfl) rfl
theorem q1865 : (Jvm.Cond.code ({ cls := "TubBitesModel", name := "readOdds", desc := "()V" } : Jvm.MethodName) prog_23_method_39_code (2 : Nat) (Option.none : Option Jvm.ClassFile.FieldType)) ∈ lw_all := lw_g (lw_at lw_m8 41 rfl) rfl
theorem q1866 : (Jvm.Cond.constantLong "TubBitesModel" (233 : Nat) (1718773093 : Int64)) ∈ lw_all := lw_g (lw_at lw_m8 42 rfl) rfl
theorem q1867 : (Jvm.Cond.constantLong "TubBitesModel" (235 : Nat) (495873780843 : Int64)) ∈ lw_all := lw_g (lw_at lw_m8 43 rfl) rfl
theorem q1868 : (Jvm.Cond.constantLong "TubBitesModel" (237 : Nat) (2002873452 : Int64)) ∈ lw_all := lw_g (lw_at lw_m8 44 rfl) rfl
theorem q1869 : (Jvm.Cond.constantLong "TubBitesModel" (239 : Nat) (113741193899620 : Int64)) ∈ lw_all := lw_g (lw_at lw_m8 45 rfl) rfl
theorem q1870 : (Jvm.Cond.constantLong "TubBitesModel" (269 : Nat) (1818583406 : Int64)) ∈ lw_all := lw_g (lw_at lw_m8 46 rfl) rfl
theorem q1871 : (Jvm.Cond.methodLink "TubBitesModel" (391 : Nat) ({ cls := "TubBitesModel", name := "formula", desc := "(I)V" } : Jvm.MethodName)) ∈ lw_all := lw_g (lw_at lw_m8 47 rfl) rfl
theorem q1872 : (Jvm.Cond.privateMethod ({ cls := "TubBitesModel", name := "formula", desc := "(I)V" } : Jvm.MethodName)) ∈ lw_tbl := lw_at lw_m8 48 rfl
theorem q1873 : (Jvm.Cond.instanceMethod ({ cls := "TubBitesModel", name := "formula", desc := "(I)V" } : Jvm.MethodName)) ∈ lw_all := lw_g (lw_at lw_m8 49 rfl) rfl
theorem q1874 : (Jvm.Cond.code ({ cls := "TubBitesModel", name := "formula", desc := "(I)V" } : Jvm.MethodName) prog_23_method_31_code (4 : Nat) (Option.none : Option Jvm.ClassFile.FieldType)) ∈ lw_all := lw_g (lw_at lw_m8 50 rfl) rfl
theorem q1875 : (Jvm.Cond.methodLink "TubBitesModel" (339 : Nat) ({ cls := "TubBitesModel", name := "unit", desc := "()V" } : Jvm.MethodName)) ∈ lw_all := lw_g (lw_at lw_m8 51 rfl) rfl
theorem q1876 : (Jvm.Cond.privateMethod ({ cls := "TubBitesModel", name := "unit", desc := "()V" } : Jvm.MethodName)) ∈ lw_tbl := lw_at lw_m8 52 rfl
theorem q1877 : (Jvm.Cond.instanceMethod ({ cls := "TubBitesModel", name := "unit", desc := "()V" } : Jvm.MethodName)) ∈ lw_all := lw_g (lw_at lw_m8 53 rfl) rfl
theorem q1878 : (Jvm.Cond.code ({ cls := "TubBitesModel", name := "unit", desc := "()V" } : Jvm.MethodName) prog_23_method_28_code (3 : Nat) (Option.none : Option Jvm.ClassFile.FieldType)) ∈ lw_all := lw_g (lw_at lw_m8 54 rfl) rfl
theorem q1879 : (Jvm.Cond.constantLong "TubBitesModel" (277 : Nat) (7237492 : Int64)) ∈ lw_all := lw_g (lw_at lw_m8 55 rfl) rfl
theorem q1880 : (Jvm.Cond.methodLink "TubBitesModel" (323 : Nat) ({ cls := "TubBitesModel", name := "mayNot", desc := "()Z" } : Jvm.MethodName)) ∈ lw_all := lw_g (lw_at lw_m8 56 rfl) rfl
theorem q1881 : (Jvm.Cond.privateMethod ({ cls := "TubBitesModel", name := "mayNot", desc := "()Z" } : Jvm.MethodName)) ∈ lw_tbl := lw_at lw_m8 57 rfl
theorem q1882 : (Jvm.Cond.instanceMethod ({ cls := "TubBitesModel", name := "mayNot", desc := "()Z" } : Jvm.MethodName)) ∈ lw_all := lw_g (lw_at lw_m8 58 rfl) rfl
theorem q1883 : (Jvm.Cond.code ({ cls := "TubBitesModel", name := "mayNot", desc := "()Z" } : Jvm.MethodName) prog_23_method_23_code (1 : Nat) (Option.some Jvm.ClassFile.FieldType.boolean)) ∈ lw_all := lw_g (lw_at lw_m8 59 rfl) rfl
theorem q1884 : (Jvm.Cond.methodLink "TubBitesModel" (307 : Nat) ({ cls := "TubBitesModel", name := "tight", desc := "(I)I" } : Jvm.MethodName)) ∈ lw_all := lw_g (lw_at lw_m8 60 rfl) rfl
theorem q1885 : (Jvm.Cond.static ({ cls := "TubBitesModel", name := "tight", desc := "(I)I" } : Jvm.MethodName)) ∈ lw_all := lw_g (lw_at lw_m8 61 rfl) rfl
theorem q1886 : (Jvm.Cond.code ({ cls := "TubBitesModel", name := "tight", desc := "(I)I" } : Jvm.MethodName) prog_23_method_20_code (1 : Nat) (Option.some Jvm.ClassFile.FieldType.int)) ∈ lw_all := lw_g (lw_at lw_m8 62 rfl) rfl
theorem q1887 : (Jvm.Cond.methodLink "TubBitesModel" (326 : Nat) ({ cls := "TubBitesModel", name := "openUp", desc := "(I)V" } : Jvm.MethodName)) ∈ lw_all := lw_g (lw_at lw_m8 63 rfl) rfl
theorem q1888 : (Jvm.Cond.privateMethod ({ cls := "TubBitesModel", name := "openUp", desc := "(I)V" } : Jvm.MethodName)) ∈ lw_tbl := lw_at lw_m8 64 rfl
theorem q1889 : (Jvm.Cond.instanceMethod ({ cls := "TubBitesModel", name := "openUp", desc := "(I)V" } : Jvm.MethodName)) ∈ lw_all := lw_g (lw_at lw_m8 65 rfl) rfl
theorem q1890 : (Jvm.Cond.code ({ cls := "TubBitesModel", name := "openUp", desc := "(I)V" } : Jvm.MethodName) prog_23_method_27_code (2 : Nat) (Option.none : Option Jvm.ClassFile.FieldType)) ∈ lw_all := lw_g (lw_at lw_m8 66 rfl) rfl
theorem q1891 : (Jvm.Cond.methodLink "TubBitesModel" (329 : Nat) ({ cls := "TubBitesModel", name := "isFull", desc := "()Z" } : Jvm.MethodName)) ∈ lw_all := lw_g (lw_at lw_m8 67 rfl) rfl
theorem q1892 : (Jvm.Cond.privateMethod ({ cls := "TubBitesModel", name := "isFull", desc := "()Z" } : Jvm.MethodName)) ∈ lw_tbl := lw_at lw_m8 68 rfl
theorem q1893 : (Jvm.Cond.instanceMethod ({ cls := "TubBitesModel", name := "isFull", desc := "()Z" } : Jvm.MethodName)) ∈ lw_all := lw_g (lw_at lw_m8 69 rfl) rfl
theorem q1894 : (Jvm.Cond.code ({ cls := "TubBitesModel", name := "isFull", desc := "()Z" } : Jvm.MethodName) prog_23_method_25_code (1 : Nat) (Option.some Jvm.ClassFile.FieldType.boolean)) ∈ lw_all := lw_g (lw_at lw_m8 70 rfl) rfl
theorem q1895 : (Jvm.Cond.methodLink "TubBitesModel" (332 : Nat) ({ cls := "TubBitesModel", name := "countUnit", desc := "()V" } : Jvm.MethodName)) ∈ lw_all := lw_g (lw_at lw_m8 71 rfl) rfl
theorem q1896 : (Jvm.Cond.privateMethod ({ cls := "TubBitesModel", name := "countUnit", desc := "()V" } : Jvm.MethodName)) ∈ lw_tbl := lw_at lw_m8 72 rfl
theorem q1897 : (Jvm.Cond.instanceMethod ({ cls := "TubBitesModel", name := "countUnit", desc := "()V" } : Jvm.MethodName)) ∈ lw_all := lw_g (lw_at lw_m8 73 rfl) rfl
theorem q1898 : (Jvm.Cond.code ({ cls := "TubBitesModel", name := "countUnit", desc := "()V" } : Jvm.MethodName) prog_23_method_26_code (1 : Nat) (Option.none : Option Jvm.ClassFile.FieldType)) ∈ lw_all := lw_g (lw_at lw_m8 74 rfl) rfl
theorem q1899 : (Jvm.Cond.methodLink "TubBitesModel" (335 : Nat) ({ cls := "TubBitesModel", name := "asked", desc := "()I" } : Jvm.MethodName)) ∈ lw_all := lw_g (lw_at lw_m8 75 rfl) rfl
theorem q1900 : (Jvm.Cond.privateMethod ({ cls := "TubBitesModel", name := "asked", desc := "()I" } : Jvm.MethodName)) ∈ lw_tbl := lw_at lw_m8 76 rfl
theorem q1901 : (Jvm.Cond.instanceMethod ({ cls := "TubBitesModel", name := "asked", desc := "()I" } : Jvm.MethodName)) ∈ lw_all := lw_g (lw_at lw_m8 77 rfl) rfl
theorem q1902 : (Jvm.Cond.code ({ cls := "TubBitesModel", name := "asked", desc := "()I" } : Jvm.MethodName) prog_23_method_24_code (1 : Nat) (Option.some Jvm.ClassFile.FieldType.int)) ∈ lw_all := lw_g (lw_at lw_m8 78 rfl) rfl
theorem q1903 : (Jvm.Cond.constantLong "TubBitesModel" (247 : Nat) (1936292453 : Int64)) ∈ lw_all := lw_g (lw_at lw_m8 79 rfl) rfl
theorem q1904 : (Jvm.Cond.constantLong "TubBitesModel" (249 : Nat) (1936680564 : Int64)) ∈ lw_all := lw_g (lw_at lw_m8 80 rfl) rfl
theorem q1905 : (Jvm.Cond.constantLong "TubBitesModel" (263 : Nat) (6709618 : Int64)) ∈ lw_all := lw_g (lw_at lw_m8 81 rfl) rfl
theorem q1906 : (Jvm.Cond.constantLong "TubBitesModel" (265 : Nat) (500135716211 : Int64)) ∈ lw_all := lw_g (lw_at lw_m8 82 rfl) rfl
theorem q1907 : (Jvm.Cond.constantLong "TubBitesModel" (259 : Nat) (470021403752 : Int64)) ∈ lw_all := lw_g (lw_at lw_m8 83 rfl) rfl
theorem q1908 : (Jvm.Cond.constantLong "TubBitesModel" (257 : Nat) (108243466679400 : Int64)) ∈ lw_all := lw_g (lw_at lw_m8 84 rfl) rfl
theorem q1909 : (Jvm.Cond.constantLong "TubBitesModel" (267 : Nat) (1802071652 : Int64)) ∈ lw_all := lw_g (lw_at lw_m8 85 rfl) rfl
theorem q1910 : (Jvm.Cond.methodLink "TubBitesModel" (310 : Nat) ({ cls := "TubBitesModel", name := "add", desc := "(II)V" } : Jvm.MethodName)) ∈ lw_all := lw_g (lw_at lw_m8 86 rfl) rfl
theorem q1911 : (Jvm.Cond.privateMethod ({ cls := "TubBitesModel", name := "add", desc := "(II)V" } : Jvm.MethodName)) ∈ lw_tbl := lw_at lw_m8 87 rfl
theorem q1912 : (Jvm.Cond.instanceMethod ({ cls := "TubBitesModel", name := "add", desc := "(II)V" } : Jvm.MethodName)) ∈ lw_all := lw_g (lw_at lw_m8 88 rfl) rfl
theorem q1913 : (Jvm.Cond.code ({ cls := "TubBitesModel", name := "add", desc := "(II)V" } : Jvm.MethodName) prog_23_method_19_code (3 : Nat) (Option.none : Option Jvm.ClassFile.FieldType)) ∈ lw_all := lw_g (lw_at lw_m8 89 rfl) rfl
theorem q1914 : (Jvm.Cond.methodLink "TubBitesModel" (342 : Nat) ({ cls := "TubBitesModel", name := "sign", desc := "()I" } : Jvm.MethodName)) ∈ lw_all := lw_g (lw_at lw_m8 90 rfl) rfl
theorem q1915 : (Jvm.Cond.privateMethod ({ cls := "TubBitesModel", name := "sign", desc := "()I" } : Jvm.MethodName)) ∈ lw_tbl := lw_at lw_m8 91 rfl
theorem q1916 : (Jvm.Cond.instanceMethod ({ cls := "TubBitesModel", name := "sign", desc := "()I" } : Jvm.MethodName)) ∈ lw_all := lw_g (lw_at lw_m8 92 rfl) rfl
theorem q1917 : (Jvm.Cond.code ({ cls := "TubBitesModel", name := "sign", desc := "()I" } : Jvm.MethodName) prog_23_method_29_code (1 : Nat) (Option.some Jvm.ClassFile.FieldType.int)) ∈ lw_all := lw_g (lw_at lw_m8 93 rfl) rfl
theorem q1918 : (Jvm.Cond.constantLong "TubBitesModel" (273 : Nat) (6385252 : Int64)) ∈ lw_all := lw_g (lw_at lw_m8 94 rfl) rfl
theorem q1919 : (Jvm.Cond.constantLong "TubBitesModel" (275 : Nat) (28530 : Int64)) ∈ lw_all := lw_g (lw_at lw_m8 95 rfl) rfl
theorem q1920 : (Jvm.Cond.methodLink "TubBitesModel" (345 : Nat) ({ cls := "TubBitesModel", name := "hasBracket", desc := "()Z" } : Jvm.MethodName)) ∈ lw_all := lw_g (lw_at lw_m8 96 rfl) rfl
theorem q1921 : (Jvm.Cond.privateMethod ({ cls := "TubBitesModel", name := "hasBracket", desc := "()Z" } : Jvm.MethodName)) ∈ lw_tbl := lw_at lw_m8 97 rfl
theorem q1922 : (Jvm.Cond.instanceMethod ({ cls := "TubBitesModel", name := "hasBracket", desc := "()Z" } : Jvm.MethodName)) ∈ lw_all := lw_g (lw_at lw_m8 98 rfl) rfl
theorem q1923 : (Jvm.Cond.code ({ cls := "TubBitesModel", name := "hasBracket", desc := "()Z" } : Jvm.MethodName) prog_23_method_30_code (3 : Nat) (Option.some Jvm.ClassFile.FieldType.boolean)) ∈ lw_all := lw_g (lw_at lw_m8 99 rfl) rfl
theorem q1924 : (Jvm.Cond.methodLink "TubBitesModel" (348 : Nat) ({ cls := "TubBitesModel", name := "close", desc := "(I)V" } : Jvm.MethodName)) ∈ lw_all := lw_g (lw_at lw_m8 100 rfl) rfl
theorem q1925 : (Jvm.Cond.privateMethod ({ cls := "TubBitesModel", name := "close", desc := "(I)V" } : Jvm.MethodName)) ∈ lw_tbl := lw_at lw_m8 101 rfl
theorem q1926 : (Jvm.Cond.instanceMethod ({ cls := "TubBitesModel", name := "close", desc := "(I)V" } : Jvm.MethodName)) ∈ lw_all := lw_g (lw_at lw_m8 102 rfl) rfl
theorem q1927 : (Jvm.Cond.code ({ cls := "TubBitesModel", name := "close", desc := "(I)V" } : Jvm.MethodName) prog_23_method_21_code (2 : Nat) (Option.none : Option Jvm.ClassFile.FieldType)) ∈ lw_all := lw_g (lw_at lw_m8 103 rfl) rfl
theorem q1928 : (Jvm.Cond.methodLink "TubBitesModel" (351 : Nat) ({ cls := "TubBitesModel", name := "hasRelation", desc := "()Z" } : Jvm.MethodName)) ∈ lw_all := lw_g (lw_at lw_m8 104 rfl) rfl
theorem q1929 : (Jvm.Cond.privateMethod ({ cls := "TubBitesModel", name := "hasRelation", desc := "()Z" } : Jvm.MethodName)) ∈ lw_tbl := lw_at lw_m8 105 rfl
theorem q1930 : (Jvm.Cond.instanceMethod ({ cls := "TubBitesModel", name := "hasRelation", desc := "()Z" } : Jvm.MethodName)) ∈ lw_all := lw_g (lw_at lw_m8 106 rfl) rfl
theorem q1931 : (Jvm.Cond.code ({ cls := "TubBitesModel", name := "hasRelation", desc := "()Z" } : Jvm.MethodName) prog_23_method_22_code (2 : Nat) (Option.some Jvm.ClassFile.FieldType.boolean)) ∈ lw_all := lw_g (lw_at lw_m8 107 rfl) rfl
theorem q1932 : (Jvm.Cond.constantLong "TubBitesModel" (241 : Nat) (1920298085 : Int64)) ∈ lw_all := lw_g (lw_at lw_m8 108 rfl) rfl
theorem q1933 : (Jvm.Cond.methodLink "TubBitesModel" (434 : Nat) ({ cls := "TubBitesModel", name := "readRule", desc := "()V" } : Jvm.MethodName)) ∈ lw_all := lw_g (lw_at lw_m8 109 rfl) rfl
theorem q1934 : (Jvm.Cond.privateMethod ({ cls := "TubBitesModel", name := "readRule", desc := "()V" } : Jvm.MethodName)) ∈ lw_tbl := lw_at lw_m8 110 rfl
theorem q1935 : (Jvm.Cond.instanceMethod ({ cls := "TubBitesModel", name := "readRule", desc := "()V" } : Jvm.MethodName)) ∈ lw_all := lw_g (lw_at lw_m8 111 rfl) rfl
theorem q1936 : (Jvm.Cond.code ({ cls := "TubBitesModel", name := "readRule", desc := "()V" } : Jvm.MethodName) prog_23_method_40_code (1 : Nat) (Option.none : Option Jvm.ClassFile.FieldType)) ∈ lw_all := lw_g (lw_at lw_m8 112 rfl) rfl
theorem q1937 : (Jvm.Cond.methodLink "TubBitesModel" (397 : Nat) ({ cls := "TubBitesModel", name := "newName", desc := "(II)V" } : Jvm.MethodName)) ∈ lw_all := lw_g (lw_at lw_m8 113 rfl) rfl
theorem q1938 : (Jvm.Cond.privateMethod ({ cls := "TubBitesModel", name := "newName", desc := "(II)V" } : Jvm.MethodName)) ∈ lw_tbl := lw_at lw_m8 114 rfl
theorem q1939 : (Jvm.Cond.instanceMethod ({ cls := "TubBitesModel", name := "newName", desc := "(II)V" } : Jvm.MethodName)) ∈ lw_all := lw_g (lw_at lw_m8 115 rfl) rfl
theorem q1940 : (Jvm.Cond.code ({ cls := "TubBitesModel", name := "newName", desc := "(II)V" } : Jvm.MethodName) prog_23_method_37_code (3 : Nat) (Option.none : Option Jvm.ClassFile.FieldType)) ∈ lw_all := lw_g (lw_at lw_m8 116 rfl) rfl
theorem q1941 : (Jvm.Cond.methodLink "TubBitesModel" (372 : Nat) ({ cls := "TubBitesModel", name := "isName", desc := "()Z" } : Jvm.MethodName)) ∈ lw_all := lw_g (lw_at lw_m8 117 rfl) rfl
theorem q1942 : (Jvm.Cond.privateMethod ({ cls := "TubBitesModel", name := "isName", desc := "()Z" } : Jvm.MethodName)) ∈ lw_tbl := lw_at lw_m8 118 rfl
theorem q1943 : (Jvm.Cond.instanceMethod ({ cls := "TubBitesModel", name := "isName", desc := "()Z" } : Jvm.MethodName)) ∈ lw_all := lw_g (lw_at lw_m8 119 rfl) rfl
theorem q1944 : (Jvm.Cond.code ({ cls := "TubBitesModel", name := "isName", desc := "()Z" } : Jvm.MethodName) prog_23_method_14_code (1 : Nat) (Option.some Jvm.ClassFile.FieldType.boolean)) ∈ lw_all := lw_g (lw_at lw_m8 120 rfl) rfl
theorem q1945 : (Jvm.Cond.methodLink "TubBitesModel" (279 : Nat) ({ cls := "TubBitesModel", name := "isOwn", desc := "()Z" } : Jvm.MethodName)) ∈ lw_all := lw_g (lw_at lw_m8 121 rfl) rfl
theorem q1946 : (Jvm.Cond.privateMethod ({ cls := "TubBitesModel", name := "isOwn", desc := "()Z" } : Jvm.MethodName)) ∈ lw_tbl := lw_at lw_m8 122 rfl
theorem q1947 : (Jvm.Cond.instanceMethod ({ cls := "TubBitesModel", name := "isOwn", desc := "()Z" } : Jvm.MethodName)) ∈ lw_all := lw_g (lw_at lw_m8 123 rfl) rfl
theorem q1948 : (Jvm.Cond.code ({ cls := "TubBitesModel", name := "isOwn", desc := "()Z" } : Jvm.MethodName) prog_23_method_13_code (1 : Nat) (Option.some Jvm.ClassFile.FieldType.boolean)) ∈ lw_all := lw_g (lw_at lw_m8 124 rfl) rfl
theorem q1949 : (Jvm.Cond.constantLong "TubBitesModel" (243 : Nat) (418498243685 : Int64)) ∈ lw_all := lw_g (lw_at lw_m8 125 rfl) rfl
theorem q1950 : (Jvm.Cond.constantLong "TubBitesModel" (245 : Nat) (24948 : Int64)) ∈ lw_all := lw_g (lw_at lw_m8 126 rfl) rfl
theorem q1951 : (Jvm.Cond.constantLong "TubBitesModel" (251 : Nat) (1668245870 : Int64)) ∈ lw_all := lw_g (lw_at lw_m8 127 rfl) rfl
theorem q1952 : (Jvm.Cond.constantLong "TubBitesModel" (253 : Nat) (108230531507570 : Int64)) ∈ lw_all := lw_g (lw_at lw_m8 128 rfl) rfl
theorem q1953 : (Jvm.Cond.constantLong "TubBitesModel" (255 : Nat) (491327153000 : Int64)) ∈ lw_all := lw_g (lw_at lw_m8 129 rfl) rfl
theorem q1954 : (Jvm.Cond.constantLong "TubBitesModel" (261 : Nat) (1685217655 : Int64)) ∈ lw_all := lw_g (lw_at lw_m8 130 rfl) rfl
theorem q1955 : (Jvm.Cond.constantLong "TubBitesModel" (271 : Nat) (1651078245 : Int64)) ∈ lw_all := lw_g (lw_at lw_m8 131 rfl) rfl
theorem q1956 : (Jvm.Cond.methodLink "TubBitesModel" (375 : Nat) ({ cls := "TubBitesModel", name := "find", desc := "(II)I" } : Jvm.MethodName)) ∈ lw_all := lw_g (lw_at lw_m8 132 rfl) rfl
theorem q1957 : (Jvm.Cond.privateMethod ({ cls := "TubBitesModel", name := "find", desc := "(II)I" } : Jvm.MethodName)) ∈ lw_tbl := lw_at lw_m8 133 rfl
theorem q1958 : (Jvm.Cond.instanceMethod ({ cls := "TubBitesModel", name := "find", desc := "(II)I" } : Jvm.MethodName)) ∈ lw_all := lw_g (lw_at lw_m8 134 rfl) rfl
theorem q1959 : (Jvm.Cond.code ({ cls := "TubBitesModel", name := "find", desc := "(II)I" } : Jvm.MethodName) prog_23_method_36_code (5 : Nat) (Option.some Jvm.ClassFile.FieldType.int)) ∈ lw_all := lw_g (lw_at lw_m8 135 rfl) rfl
theorem q1960 : (Jvm.Cond.methodLink "TubBitesModel" (437 : Nat) ({ cls := "TubBitesModel", name := "readApple", desc := "()V" } : Jvm.MethodName)) ∈ lw_all := lw_g (lw_at lw_m8 136 rfl) rfl
theorem q1961 : (Jvm.Cond.privateMethod ({ cls := "TubBitesModel", name := "readApple", desc := "()V" } : Jvm.MethodName)) ∈ lw_tbl := lw_at lw_m8 137 rfl
theorem q1962 : (Jvm.Cond.instanceMethod ({ cls := "TubBitesModel", name := "readApple", desc := "()V" } : Jvm.MethodName)) ∈ lw_all := lw_g (lw_at lw_m8 138 rfl) rfl
theorem q1963 : (Jvm.Cond.code ({ cls := "TubBitesModel", name := "readApple", desc := "()V" } : Jvm.MethodName) prog_23_method_41_code (3 : Nat) (Option.none : Option Jvm.ClassFile.FieldType)) ∈ lw_all := lw_g (lw_at lw_m8 139 rfl) rfl
theorem q1964 : (Jvm.Cond.methodLink "TubBitesModel" (403 : Nat) ({ cls := "TubBitesModel", name := "wrongAt", desc := "(II)V" } : Jvm.MethodName)) ∈ lw_all := lw_g (lw_at lw_m8 140 rfl) rfl
theorem q1965 : (Jvm.Cond.privateMethod ({ cls := "TubBitesModel", name := "wrongAt", desc := "(II)V" } : Jvm.MethodName)) ∈ lw_tbl := lw_at lw_m8 141 rfl
theorem q1966 : (Jvm.Cond.instanceMethod ({ cls := "TubBitesModel", name := "wrongAt", desc := "(II)V" } : Jvm.MethodName)) ∈ lw_all := lw_g (lw_at lw_m8 142 rfl) rfl
theorem q1967 : (Jvm.Cond.code ({ cls := "TubBitesModel", name := "wrongAt", desc := "(II)V" } : Jvm.MethodName) prog_23_method_11_code (3 : Nat) (Option.none : Option Jvm.ClassFile.FieldType)) ∈ lw_all := lw_g (lw_at lw_m8 143 rfl) rfl
theorem q1968 : (Jvm.Cond.methodLink "TubBitesModel" (406 : Nat) ({ cls := "TubBitesModel", name := "takes", desc := "(J)Z" } : Jvm.MethodName)) ∈ lw_all := lw_g (lw_at lw_m8 144 rfl) rfl
theorem q1969 : (Jvm.Cond.privateMethod ({ cls := "TubBitesModel", name := "takes", desc := "(J)Z" } : Jvm.MethodName)) ∈ lw_tbl := lw_at lw_m8 145 rfl
theorem q1970 : (Jvm.Cond.instanceMethod ({ cls := "TubBitesModel", name := "takes", desc := "(J)Z" } : Jvm.MethodName)) ∈ lw_all := lw_g (lw_at lw_m8 146 rfl) rfl
theorem q1971 : (Jvm.Cond.code ({ cls := "TubBitesModel", name := "takes", desc := "(J)Z" } : Jvm.MethodName) prog_23_method_15_code (4 : Nat) (Option.some Jvm.ClassFile.FieldType.boolean)) ∈ lw_all := lw_g (lw_at lw_m8 147 rfl) rfl
theorem q1972 : (Jvm.Cond.methodLink "TubBitesModel" (440 : Nat) ({ cls := "TubBitesModel", name := "readBobber", desc := "()V" } : Jvm.MethodName)) ∈ lw_all := lw_g (lw_at lw_m8 148 rfl) rfl
theorem q1973 : (Jvm.Cond.privateMethod ({ cls := "TubBitesModel", name := "readBobber", desc := "()V" } : Jvm.MethodName)) ∈ lw_tbl := lw_at lw_m8 149 rfl
theorem q1974 : (Jvm.Cond.instanceMethod ({ cls := "TubBitesModel", name := "readBobber", desc := "()V" } : Jvm.MethodName)) ∈ lw_all := lw_g (lw_at lw_m8 150 rfl) rfl
theorem q1975 : (Jvm.Cond.code ({ cls := "TubBitesModel", name := "readBobber", desc := "()V" } : Jvm.MethodName) prog_23_method_42_code (1 : Nat) (Option.none : Option Jvm.ClassFile.FieldType)) ∈ lw_all := lw_g (lw_at lw_m8 151 rfl) rfl
theorem q1976 : (Jvm.Cond.methodLink "TubBitesModel" (412 : Nat) ({ cls := "TubBitesModel", name := "readBy", desc := "()V" } : Jvm.MethodName)) ∈ lw_all := lw_g (lw_at lw_m8 152 rfl) rfl
theorem q1977 : (Jvm.Cond.privateMethod ({ cls := "TubBitesModel", name := "readBy", desc := "()V" } : Jvm.MethodName)) ∈ lw_tbl := lw_at lw_m8 153 rfl
theorem q1978 : (Jvm.Cond.instanceMethod ({ cls := "TubBitesModel", name := "readBy", desc := "()V" } : Jvm.MethodName)) ∈ lw_all := lw_g (lw_at lw_m8 154 rfl) rfl
theorem q1979 : (Jvm.Cond.code ({ cls := "TubBitesModel", name := "readBy", desc := "()V" } : Jvm.MethodName) prog_23_method_43_code (1 : Nat) (Option.none : Option Jvm.ClassFile.FieldType)) ∈ lw_all := lw_g (lw_at lw_m8 155 rfl) rfl
theorem q1980 : (Jvm.Cond.methodLink "TubBitesModel" (443 : Nat) ({ cls := "TubBitesModel", name := "readDraw", desc := "()V" } : Jvm.MethodName)) ∈ lw_all := lw_g (lw_at lw_m8 156 rfl) rfl
theorem q1981 : (Jvm.Cond.privateMethod ({ cls := "TubBitesModel", name := "readDraw", desc := "()V" } : Jvm.MethodName)) ∈ lw_tbl := lw_at lw_m8 157 rfl
theorem q1982 : (Jvm.Cond.instanceMethod ({ cls := "TubBitesModel", name := "readDraw", desc := "()V" } : Jvm.MethodName)) ∈ lw_all := lw_g (lw_at lw_m8 158 rfl) rfl
theorem q1983 : (Jvm.Cond.code ({ cls := "TubBitesModel", name := "readDraw", desc := "()V" } : Jvm.MethodName) prog_23_method_44_code (1 : Nat) (Option.none : Option Jvm.ClassFile.FieldType)) ∈ lw_all := lw_g (lw_at lw_m8 159 rfl) rfl
theorem q1984 : (Jvm.Cond.methodLink "TubBitesModel" (446 : Nat) ({ cls := "TubBitesModel", name := "readBite", desc := "()V" } : Jvm.MethodName)) ∈ lw_all := lw_g (lw_at lw_m8 160 rfl) rfl
theorem q1985 : (Jvm.Cond.privateMethod ({ cls := "TubBitesModel", name := "readBite", desc := "()V" } : Jvm.MethodName)) ∈ lw_tbl := lw_at lw_m8 161 rfl
theorem q1986 : (Jvm.Cond.instanceMethod ({ cls := "TubBitesModel", name := "readBite", desc := "()V" } : Jvm.MethodName)) ∈ lw_all := lw_g (lw_at lw_m8 162 rfl) rfl
theorem q1987 : (Jvm.Cond.code ({ cls := "TubBitesModel", name := "readBite", desc := "()V" } : Jvm.MethodName) prog_23_method_45_code (1 : Nat) (Option.none : Option Jvm.ClassFile.FieldType)) ∈ lw_all := lw_g (lw_at lw_m8 163 rfl) rfl
theorem q1988 : (Jvm.Cond.methodLink "TubBitesModel" (476 : Nat) ({ cls := "TubBitesModel", name := "layTold", desc := "()V" } : Jvm.MethodName)) ∈ lw_all := lw_g (lw_at lw_m8 164 rfl) rfl
theorem q1989 : (Jvm.Cond.privateMethod ({ cls := "TubBitesModel", name := "layTold", desc := "()V" } : Jvm.MethodName)) ∈ lw_tbl := lw_at lw_m8 165 rfl
theorem q1990 : (Jvm.Cond.instanceMethod ({ cls := "TubBitesModel", name := "layTold", desc := "()V" } : Jvm.MethodName)) ∈ lw_all := lw_g (lw_at lw_m8 166 rfl) rfl
theorem q1991 : (Jvm.Cond.code ({ cls := "TubBitesModel", name := "layTold", desc := "()V" } : Jvm.MethodName) prog_23_method_57_code (2 : Nat) (Option.none : Option Jvm.ClassFile.FieldType)) ∈ lw_all := lw_g (lw_at lw_m8 167 rfl) rfl
theorem q1992 : (Jvm.Cond.methodLink "TubBitesModel" (479 : Nat) ({ cls := "TubBitesModel", name := "keep", desc := "()V" } : Jvm.MethodName)) ∈ lw_all := lw_g (lw_at lw_m8 168 rfl) rfl
theorem q1993 : (Jvm.Cond.privateMethod ({ cls := "TubBitesModel", name := "keep", desc := "()V" } : Jvm.MethodName)) ∈ lw_tbl := lw_at lw_m8 169 rfl
theorem q1994 : (Jvm.Cond.instanceMethod ({ cls := "TubBitesModel", name := "keep", desc := "()V" } : Jvm.MethodName)) ∈ lw_all := lw_g (lw_at lw_m8 170 rfl) rfl
theorem q1995 : (Jvm.Cond.code ({ cls := "TubBitesModel", name := "keep", desc := "()V" } : Jvm.MethodName) prog_23_method_56_code (2 : Nat) (Option.none : Option Jvm.ClassFile.FieldType)) ∈ lw_all := lw_g (lw_at lw_m8 171 rfl) rfl
theorem q1997 : (Jvm.Cond.instanceMethod ({ cls := "TubBitesModel", name := "fault", desc := "(I)I" } : Jvm.MethodName)) ∈ lw_all := lw_g (lw_at lw_m8 173 rfl) rfl
theorem q1998 : (Jvm.Cond.selects "TubBitesModel" ({ cls := "TubBitesModel", name := "fault", desc := "(I)I" } : Jvm.MethodName) ({ cls := "TubBitesModel", name := "fault", desc := "(I)I" } : Jvm.MethodName)) ∈ lw_all := lw_g (lw_at lw_m8 174 rfl) rfl
theorem q1999 : (Jvm.Cond.code ({ cls := "TubBitesModel", name := "fault", desc := "(I)I" } : Jvm.MethodName) prog_23_method_49_code (2 : Nat) (Option.some Jvm.ClassFile.FieldType.int)) ∈ lw_all := lw_g (lw_at lw_m8 175 rfl) rfl
theorem q2001 : (Jvm.Cond.instanceMethod ({ cls := "TubBitesModel", name := "apple", desc := "(II)I" } : Jvm.MethodName)) ∈ lw_all := lw_g (lw_at lw_m8 177 rfl) rfl
theorem q2002 : (Jvm.Cond.selects "TubBitesModel" ({ cls := "TubBitesModel", name := "apple", desc := "(II)I" } : Jvm.MethodName) ({ cls := "TubBitesModel", name := "apple", desc := "(II)I" } : Jvm.MethodName)) ∈ lw_all := lw_g (lw_at lw_m8 178 rfl) rfl
theorem q2003 : (Jvm.Cond.code ({ cls := "TubBitesModel", name := "apple", desc := "(II)I" } : Jvm.MethodName) prog_23_method_78_code (3 : Nat) (Option.some Jvm.ClassFile.FieldType.int)) ∈ lw_all := lw_g (lw_at lw_m8 179 rfl) rfl
theorem q2004 : (Jvm.Cond.methodLink "TubBitesModel" (560 : Nat) ({ cls := "TubBitesModel", name := "isApple", desc := "(I)Z" } : Jvm.MethodName)) ∈ lw_all := lw_g (lw_at lw_m8 180 rfl) rfl
theorem q2005 : (Jvm.Cond.privateMethod ({ cls := "TubBitesModel", name := "isApple", desc := "(I)Z" } : Jvm.MethodName)) ∈ lw_tbl := lw_at lw_m8 181 rfl
theorem q2006 : (Jvm.Cond.instanceMethod ({ cls := "TubBitesModel", name := "isApple", desc := "(I)Z" } : Jvm.MethodName)) ∈ lw_all := lw_g (lw_at lw_m8 182 rfl) rfl
theorem q2007 : (Jvm.Cond.code ({ cls := "TubBitesModel", name := "isApple", desc := "(I)Z" } : Jvm.MethodName) prog_23_method_51_code (2 : Nat) (Option.some Jvm.ClassFile.FieldType.boolean)) ∈ lw_all := lw_g (lw_at lw_m8 183 rfl) rfl
theorem q2008 : (Jvm.Cond.methodLink "TubBitesModel" (494 : Nat) ({ cls := "TubBitesModel", name := "isIn", desc := "(III)Z" } : Jvm.MethodName)) ∈ lw_all := lw_g (lw_at lw_m8 184 rfl) rfl
theorem q2009 : (Jvm.Cond.static ({ cls := "TubBitesModel", name := "isIn", desc := "(III)Z" } : Jvm.MethodName)) ∈ lw_all := lw_g (lw_at lw_m8 185 rfl) rfl
theorem q2010 : (Jvm.Cond.code ({ cls := "TubBitesModel", name := "isIn", desc := "(III)Z" } : Jvm.MethodName) prog_23_method_50_code (3 : Nat) (Option.some Jvm.ClassFile.FieldType.boolean)) ∈ lw_all := lw_g (lw_at lw_m8 186 rfl) rfl
theorem q2012 : (Jvm.Cond.instanceMethod ({ cls := "TubBitesModel", name := "bobber", desc := "(II)I" } : Jvm.MethodName)) ∈ lw_all := lw_g (lw_at lw_m8 188 rfl) rfl
theorem q2013 : (Jvm.Cond.selects "TubBitesModel" ({ cls := "TubBitesModel", name := "bobber", desc := "(II)I" } : Jvm.MethodName) ({ cls := "TubBitesModel", name := "bobber", desc := "(II)I" } : Jvm.MethodName)) ∈ lw_all := lw_g (lw_at lw_m8 189 rfl) rfl
theorem q2014 : (Jvm.Cond.code ({ cls := "TubBitesModel", name := "bobber", desc := "(II)I" } : Jvm.MethodName) prog_23_method_79_code (3 : Nat) (Option.some Jvm.ClassFile.FieldType.int)) ∈ lw_all := lw_g (lw_at lw_m8 190 rfl) rfl
theorem q2015 : (Jvm.Cond.methodLink "TubBitesModel" (563 : Nat) ({ cls := "TubBitesModel", name := "isBobber", desc := "(I)Z" } : Jvm.MethodName)) ∈ lw_all := lw_g (lw_at lw_m8 191 rfl) rfl
theorem q2016 : (Jvm.Cond.privateMethod ({ cls := "TubBitesModel", name := "isBobber", desc := "(I)Z" } : Jvm.MethodName)) ∈ lw_tbl := lw_at lw_m8 192 rfl
theorem q2017 : (Jvm.Cond.instanceMethod ({ cls := "TubBitesModel", name := "isBobber", desc := "(I)Z" } : Jvm.MethodName)) ∈ lw_all := lw_g (lw_at lw_m8 193 rfl) rfl
theorem q2018 : (Jvm.Cond.code ({ cls := "TubBitesModel", name := "isBobber", desc := "(I)Z" } : Jvm.MethodName) prog_23_method_52_code (2 : Nat) (Option.some Jvm.ClassFile.FieldType.boolean)) ∈ lw_all := lw_g (lw_at lw_m8 194 rfl) rfl
theorem q2020 : (Jvm.Cond.instanceMethod ({ cls := "TubBitesModel", name := "odds", desc := "(III)I" } : Jvm.MethodName)) ∈ lw_all := lw_g (lw_at lw_m8 196 rfl) rfl
theorem q2021 : (Jvm.Cond.selects "TubBitesModel" ({ cls := "TubBitesModel", name := "odds", desc := "(III)I" } : Jvm.MethodName) ({ cls := "TubBitesModel", name := "odds", desc := "(III)I" } : Jvm.MethodName)) ∈ lw_all := lw_g (lw_at lw_m8 197 rfl) rfl
theorem q2022 : (Jvm.Cond.code ({ cls := "TubBitesModel", name := "odds", desc := "(III)I" } : Jvm.MethodName) prog_23_method_81_code (4 : Nat) (Option.some Jvm.ClassFile.FieldType.int)) ∈ lw_all := lw_g (lw_at lw_m8 198 rfl) rfl
theorem q2023 : (Jvm.Cond.methodLink "TubBitesModel" (569 : Nat) ({ cls := "TubBitesModel", name := "mayTry", desc := "(III)Z" } : Jvm.MethodName)) ∈ lw_all := lw_g (lw_at lw_m8 199 rfl) rfl
theorem q2024 : (Jvm.Cond.privateMethod ({ cls := "TubBitesModel", name := "mayTry", desc := "(III)Z" } : Jvm.MethodName)) ∈ lw_tbl := lw_at lw_m8 200 rfl
theorem q2025 : (Jvm.Cond.instanceMethod ({ cls := "TubBitesModel", name := "mayTry", desc := "(III)Z" } : Jvm.MethodName)) ∈ lw_all := lw_g (lw_at lw_m8 201 rfl) rfl
theorem q2026 : (Jvm.Cond.code ({ cls := "TubBitesModel", name := "mayTry", desc := "(III)Z" } : Jvm.MethodName) prog_23_method_80_code (4 : Nat) (Option.some Jvm.ClassFile.FieldType.boolean)) ∈ lw_all := lw_g (lw_at lw_m8 202 rfl) rfl
theorem q2027 : (Jvm.Cond.methodLink "TubBitesModel" (566 : Nat) ({ cls := "TubBitesModel", name := "load", desc := "()V" } : Jvm.MethodName)) ∈ lw_all := lw_g (lw_at lw_m8 203 rfl) rfl
theorem q2028 : (Jvm.Cond.privateMethod ({ cls := "TubBitesModel", name := "load", desc := "()V" } : Jvm.MethodName)) ∈ lw_tbl := lw_at lw_m8 204 rfl
theorem q2029 : (Jvm.Cond.instanceMethod ({ cls := "TubBitesModel", name := "load", desc := "()V" } : Jvm.MethodName)) ∈ lw_all := lw_g (lw_at lw_m8 205 rfl) rfl
theorem q2030 : (Jvm.Cond.code ({ cls := "TubBitesModel", name := "load", desc := "()V" } : Jvm.MethodName) prog_23_method_55_code (2 : Nat) (Option.none : Option Jvm.ClassFile.FieldType)) ∈ lw_all := lw_g (lw_at lw_m8 206 rfl) rfl
theorem q2031 : (Jvm.Cond.methodLink "TubBitesModel" (548 : Nat) ({ cls := "TubBitesModel", name := "canTry", desc := "(III)Z" } : Jvm.MethodName)) ∈ lw_all := lw_g (lw_at lw_m8 207 rfl) rfl
theorem q2032 : (Jvm.Cond.privateMethod ({ cls := "TubBitesModel", name := "canTry", desc := "(III)Z" } : Jvm.MethodName)) ∈ lw_tbl := lw_at lw_m8 208 rfl
theorem q2033 : (Jvm.Cond.instanceMethod ({ cls := "TubBitesModel", name := "canTry", desc := "(III)Z" } : Jvm.MethodName)) ∈ lw_all := lw_g (lw_at lw_m8 209 rfl) rfl
theorem q2034 : (Jvm.Cond.code ({ cls := "TubBitesModel", name := "canTry", desc := "(III)Z" } : Jvm.MethodName) prog_23_method_65_code (4 : Nat) (Option.some Jvm.ClassFile.FieldType.boolean)) ∈ lw_all := lw_g (lw_at lw_m8 210 rfl) rfl
theorem q2035 : (Jvm.Cond.methodLink "TubBitesModel" (501 : Nat) ({ cls := "TubBitesModel", name := "isAfloat", desc := "(I)Z" } : Jvm.MethodName)) ∈ lw_all := lw_g (lw_at lw_m8 211 rfl) rfl
theorem q2036 : (Jvm.Cond.privateMethod ({ cls := "TubBitesModel", name := "isAfloat", desc := "(I)Z" } : Jvm.MethodName)) ∈ lw_tbl := lw_at lw_m8 212 rfl
theorem q2037 : (Jvm.Cond.instanceMethod ({ cls := "TubBitesModel", name := "isAfloat", desc := "(I)Z" } : Jvm.MethodName)) ∈ lw_all := lw_g (lw_at lw_m8 213 rfl) rfl
theorem q2038 : (Jvm.Cond.code ({ cls := "TubBitesModel", name := "isAfloat", desc := "(I)Z" } : Jvm.MethodName) prog_23_method_60_code (2 : Nat) (Option.some Jvm.ClassFile.FieldType.boolean)) ∈ lw_all := lw_g (lw_at lw_m8 214 rfl) rfl
theorem q2039 : (Jvm.Cond.methodLink "TubBitesModel" (361 : Nat) ({ cls := "TubBitesModel", name := "far", desc := "(II)I" } : Jvm.MethodName)) ∈ lw_all := lw_g (lw_at lw_m8 215 rfl) rfl
theorem q2040 : (Jvm.Cond.privateMethod ({ cls := "TubBitesModel", name := "far", desc := "(II)I" } : Jvm.MethodName)) ∈ lw_tbl := lw_at lw_m8 216 rfl
theorem q2041 : (Jvm.Cond.instanceMethod ({ cls := "TubBitesModel", name := "far", desc := "(II)I" } : Jvm.MethodName)) ∈ lw_all := lw_g (lw_at lw_m8 217 rfl) rfl
theorem q2042 : (Jvm.Cond.code ({ cls := "TubBitesModel", name := "far", desc := "(II)I" } : Jvm.MethodName) prog_23_method_59_code (5 : Nat) (Option.some Jvm.ClassFile.FieldType.int)) ∈ lw_all := lw_g (lw_at lw_m8 218 rfl) rfl
theorem q2043 : (Jvm.Cond.methodLink "TubBitesModel" (498 : Nat) ({ cls := "TubBitesModel", name := "amount", desc := "(I)I" } : Jvm.MethodName)) ∈ lw_all := lw_g (lw_at lw_m8 219 rfl) rfl
theorem q2044 : (Jvm.Cond.static ({ cls := "TubBitesModel", name := "amount", desc := "(I)I" } : Jvm.MethodName)) ∈ lw_all := lw_g (lw_at lw_m8 220 rfl) rfl
theorem q2045 : (Jvm.Cond.code ({ cls := "TubBitesModel", name := "amount", desc := "(I)I" } : Jvm.MethodName) prog_23_method_58_code (1 : Nat) (Option.some Jvm.ClassFile.FieldType.int)) ∈ lw_all := lw_g (lw_at lw_m8 221 rfl) rfl
theorem q2046 : (Jvm.Cond.methodLink "TubBitesModel" (504 : Nat) ({ cls := "TubBitesModel", name := "takesBreath", desc := "(I)I" } : Jvm.MethodName)) ∈ lw_all := lw_g (lw_at lw_m8 222 rfl) rfl
theorem q2047 : (Jvm.Cond.static ({ cls := "TubBitesModel", name := "takesBreath", desc := "(I)I" } : Jvm.MethodName)) ∈ lw_all := lw_g (lw_at lw_m8 223 rfl) rfl
theorem q2048 : (Jvm.Cond.code ({ cls := "TubBitesModel", name := "takesBreath", desc := "(I)I" } : Jvm.MethodName) prog_23_method_64_code (1 : Nat) (Option.some Jvm.ClassFile.FieldType.int)) ∈ lw_all := lw_g (lw_at lw_m8 224 rfl) rfl
theorem q2049 : (Jvm.Cond.methodLink "TubBitesModel" (358 : Nat) ({ cls := "TubBitesModel", name := "isRim", desc := "(I)Z" } : Jvm.MethodName)) ∈ lw_all := lw_g (lw_at lw_m8 225 rfl) rfl
theorem q2050 : (Jvm.Cond.privateMethod ({ cls := "TubBitesModel", name := "isRim", desc := "(I)Z" } : Jvm.MethodName)) ∈ lw_tbl := lw_at lw_m8 226 rfl
theorem q2051 : (Jvm.Cond.instanceMethod ({ cls := "TubBitesModel", name := "isRim", desc := "(I)Z" } : Jvm.MethodName)) ∈ lw_all := lw_g (lw_at lw_m8 227 rfl) rfl
theorem q2052 : (Jvm.Cond.code ({ cls := "TubBitesModel", name := "isRim", desc := "(I)Z" } : Jvm.MethodName) prog_23_method_61_code (2 : Nat) (Option.some Jvm.ClassFile.FieldType.boolean)) ∈ lw_all := lw_g (lw_at lw_m8 228 rfl) rfl
theorem q2053 : (Jvm.Cond.methodLink "TubBitesModel" (507 : Nat) ({ cls := "TubBitesModel", name := "leans", desc := "(II)Z" } : Jvm.MethodName)) ∈ lw_all := lw_g (lw_at lw_m8 229 rfl) rfl
theorem q2054 : (Jvm.Cond.privateMethod ({ cls := "TubBitesModel", name := "leans", desc := "(II)Z" } : Jvm.MethodName)) ∈ lw_tbl := lw_at lw_m8 230 rfl
theorem q2055 : (Jvm.Cond.instanceMethod ({ cls := "TubBitesModel", name := "leans", desc := "(II)Z" } : Jvm.MethodName)) ∈ lw_all := lw_g (lw_at lw_m8 231 rfl) rfl
theorem q2056 : (Jvm.Cond.code ({ cls := "TubBitesModel", name := "leans", desc := "(II)Z" } : Jvm.MethodName) prog_23_method_68_code (3 : Nat) (Option.some Jvm.ClassFile.FieldType.boolean)) ∈ lw_all := lw_g (lw_at lw_m8 232 rfl) rfl
theorem q2057 : (Jvm.Cond.methodLink "TubBitesModel" (520 : Nat) ({ cls := "TubBitesModel", name := "layWay", desc := "(II)Z" } : Jvm.MethodName)) ∈ lw_all := lw_g (lw_at lw_m8 233 rfl) rfl
theorem q2058 : (Jvm.Cond.privateMethod ({ cls := "TubBitesModel", name := "layWay", desc := "(II)Z" } : Jvm.MethodName)) ∈ lw_tbl := lw_at lw_m8 234 rfl
theorem q2059 : (Jvm.Cond.instanceMethod ({ cls := "TubBitesModel", name := "layWay", desc := "(II)Z" } : Jvm.MethodName)) ∈ lw_all := lw_g (lw_at lw_m8 235 rfl) rfl
theorem q2060 : (Jvm.Cond.code ({ cls := "TubBitesModel", name := "layWay", desc := "(II)Z" } : Jvm.MethodName) prog_23_method_67_code (6 : Nat) (Option.some Jvm.ClassFile.FieldType.boolean)) ∈ lw_all := lw_g (lw_at lw_m8 236 rfl) rfl
theorem q2061 : (Jvm.Cond.methodLink "TubBitesModel" (523 : Nat) ({ cls := "TubBitesModel", name := "afloat", desc := "(II)I" } : Jvm.MethodName)) ∈ lw_all := lw_g (lw_at lw_m8 237 rfl) rfl
theorem q2062 : (Jvm.Cond.privateMethod ({ cls := "TubBitesModel", name := "afloat", desc := "(II)I" } : Jvm.MethodName)) ∈ lw_tbl := lw_at lw_m8 238 rfl
theorem q2063 : (Jvm.Cond.instanceMethod ({ cls := "TubBitesModel", name := "afloat", desc := "(II)I" } : Jvm.MethodName)) ∈ lw_all := lw_g (lw_at lw_m8 239 rfl) rfl
theorem q2064 : (Jvm.Cond.code ({ cls := "TubBitesModel", name := "afloat", desc := "(II)I" } : Jvm.MethodName) prog_23_method_62_code (5 : Nat) (Option.some Jvm.ClassFile.FieldType.int)) ∈ lw_all := lw_g (lw_at lw_m9 0 rfl) rfl
theorem q2065 : (Jvm.Cond.methodLink "TubBitesModel" (538 : Nat) ({ cls := "TubBitesModel", name := "oddsOf", desc := "(III)I" } : Jvm.MethodName)) ∈ lw_all := lw_g (lw_at lw_m9 1 rfl) rfl
theorem q2066 : (Jvm.Cond.privateMethod ({ cls := "TubBitesModel", name := "oddsOf", desc := "(III)I" } : Jvm.MethodName)) ∈ lw_tbl := lw_at lw_m9 2 rfl
theorem q2067 : (Jvm.Cond.instanceMethod ({ cls := "TubBitesModel", name := "oddsOf", desc := "(III)I" } : Jvm.MethodName)) ∈ lw_all := lw_g (lw_at lw_m9 3 rfl) rfl
theorem q2068 : (Jvm.Cond.code ({ cls := "TubBitesModel", name := "oddsOf", desc := "(III)I" } : Jvm.MethodName) prog_23_method_66_code (5 : Nat) (Option.some Jvm.ClassFile.FieldType.int)) ∈ lw_all := lw_g (lw_at lw_m9 4 rfl) rfl
theorem q2069 : (Jvm.Cond.methodLink "TubBitesModel" (511 : Nat) ({ cls := "TubBitesModel", name := "worked", desc := "(IIIII)I" } : Jvm.MethodName)) ∈ lw_all := lw_g (lw_at lw_m9 5 rfl) rfl
theorem q2070 : (Jvm.Cond.privateMethod ({ cls := "TubBitesModel", name := "worked", desc := "(IIIII)I" } : Jvm.MethodName)) ∈ lw_tbl := lw_at lw_m9 6 rfl
theorem q2071 : (Jvm.Cond.instanceMethod ({ cls := "TubBitesModel", name := "worked", desc := "(IIIII)I" } : Jvm.MethodName)) ∈ lw_all := lw_g (lw_at lw_m9 7 rfl) rfl
theorem q2072 : (Jvm.Cond.code ({ cls := "TubBitesModel", name := "worked", desc := "(IIIII)I" } : Jvm.MethodName) prog_23_method_35_code (8 : Nat) (Option.some Jvm.ClassFile.FieldType.int)) ∈ lw_all := lw_g (lw_at lw_m9 8 rfl) rfl
theorem q2073 : (Jvm.Cond.methodLink "TubBitesModel" (364 : Nat) ({ cls := "TubBitesModel", name := "askOf", desc := "(IIIII)I" } : Jvm.MethodName)) ∈ lw_all := lw_g (lw_at lw_m9 9 rfl) rfl
theorem q2074 : (Jvm.Cond.privateMethod ({ cls := "TubBitesModel", name := "askOf", desc := "(IIIII)I" } : Jvm.MethodName)) ∈ lw_tbl := lw_at lw_m9 10 rfl
theorem q2075 : (Jvm.Cond.instanceMethod ({ cls := "TubBitesModel", name := "askOf", desc := "(IIIII)I" } : Jvm.MethodName)) ∈ lw_all := lw_g (lw_at lw_m9 11 rfl) rfl
theorem q2076 : (Jvm.Cond.code ({ cls := "TubBitesModel", name := "askOf", desc := "(IIIII)I" } : Jvm.MethodName) prog_23_method_34_code (6 : Nat) (Option.some Jvm.ClassFile.FieldType.int)) ∈ lw_all := lw_g (lw_at lw_m9 12 rfl) rfl
theorem q2077 : (Jvm.Cond.methodLink "TubBitesModel" (354 : Nat) ({ cls := "TubBitesModel", name := "truth", desc := "(Z)I" } : Jvm.MethodName)) ∈ lw_all := lw_g (lw_at lw_m9 13 rfl) rfl
theorem q2078 : (Jvm.Cond.static ({ cls := "TubBitesModel", name := "truth", desc := "(Z)I" } : Jvm.MethodName)) ∈ lw_all := lw_g (lw_at lw_m9 14 rfl) rfl
theorem q2079 : (Jvm.Cond.code ({ cls := "TubBitesModel", name := "truth", desc := "(Z)I" } : Jvm.MethodName) prog_23_method_32_code (1 : Nat) (Option.some Jvm.ClassFile.FieldType.int)) ∈ lw_all := lw_g (lw_at lw_m9 15 rfl) rfl
theorem q2080 : (Jvm.Cond.methodLink "TubBitesModel" (368 : Nat) ({ cls := "TubBitesModel", name := "done", desc := "(III)I" } : Jvm.MethodName)) ∈ lw_all := lw_g (lw_at lw_m9 16 rfl) rfl
theorem q2081 : (Jvm.Cond.static ({ cls := "TubBitesModel", name := "done", desc := "(III)I" } : Jvm.MethodName)) ∈ lw_all := lw_g (lw_at lw_m9 17 rfl) rfl
theorem q2082 : (Jvm.Cond.code ({ cls := "TubBitesModel", name := "done", desc := "(III)I" } : Jvm.MethodName) prog_23_method_33_code (3 : Nat) (Option.some Jvm.ClassFile.FieldType.int)) ∈ lw_all := lw_g (lw_at lw_m9 18 rfl) rfl
theorem q2084 : (Jvm.Cond.instanceMethod ({ cls := "TubBitesModel", name := "chooses", desc := "(I)I" } : Jvm.MethodName)) ∈ lw_all := lw_g (lw_at lw_m9 20 rfl) rfl
theorem q2085 : (Jvm.Cond.selects "TubBitesModel" ({ cls := "TubBitesModel", name := "chooses", desc := "(I)I" } : Jvm.MethodName) ({ cls := "TubBitesModel", name := "chooses", desc := "(I)I" } : Jvm.MethodName)) ∈ lw_all := lw_g (lw_at lw_m9 21 rfl) rfl
theorem q2086 : (Jvm.Cond.code ({ cls := "TubBitesModel", name := "chooses", desc := "(I)I" } : Jvm.MethodName) prog_23_method_83_code (2 : Nat) (Option.some Jvm.ClassFile.FieldType.int)) ∈ lw_all := lw_g (lw_at lw_m9 22 rfl) rfl
theorem q2087 : (Jvm.Cond.methodLink "TubBitesModel" (551 : Nat) ({ cls := "TubBitesModel", name := "choice", desc := "(II)I" } : Jvm.MethodName)) ∈ lw_all := lw_g (lw_at lw_m9 23 rfl) rfl
theorem q2088 : (Jvm.Cond.privateMethod ({ cls := "TubBitesModel", name := "choice", desc := "(II)I" } : Jvm.MethodName)) ∈ lw_tbl := lw_at lw_m9 24 rfl
theorem q2089 : (Jvm.Cond.instanceMethod ({ cls := "TubBitesModel", name := "choice", desc := "(II)I" } : Jvm.MethodName)) ∈ lw_all := lw_g (lw_at lw_m9 25 rfl) rfl
theorem q2090 : (Jvm.Cond.code ({ cls := "TubBitesModel", name := "choice", desc := "(II)I" } : Jvm.MethodName) prog_23_method_75_code (7 : Nat) (Option.some Jvm.ClassFile.FieldType.int)) ∈ lw_all := lw_g (lw_at lw_m9 26 rfl) rfl
theorem q2091 : (Jvm.Cond.methodLink "TubBitesModel" (572 : Nat) ({ cls := "TubBitesModel", name := "told10", desc := "(I)I" } : Jvm.MethodName)) ∈ lw_all := lw_g (lw_at lw_m9 27 rfl) rfl
theorem q2092 : (Jvm.Cond.static ({ cls := "TubBitesModel", name := "told10", desc := "(I)I" } : Jvm.MethodName)) ∈ lw_all := lw_g (lw_at lw_m9 28 rfl) rfl
theorem q2093 : (Jvm.Cond.code ({ cls := "TubBitesModel", name := "told10", desc := "(I)I" } : Jvm.MethodName) prog_23_method_82_code (1 : Nat) (Option.some Jvm.ClassFile.FieldType.int)) ∈ lw_all := lw_g (lw_at lw_m9 29 rfl) rfl
theorem q2095 : (Jvm.Cond.instanceMethod ({ cls := "TubBitesModel", name := "go", desc := "(III)I" } : Jvm.MethodName)) ∈ lw_all := lw_g (lw_at lw_m9 31 rfl) rfl
theorem q2096 : (Jvm.Cond.selects "TubBitesModel" ({ cls := "TubBitesModel", name := "go", desc := "(III)I" } : Jvm.MethodName) ({ cls := "TubBitesModel", name := "go", desc := "(III)I" } : Jvm.MethodName)) ∈ lw_all := lw_g (lw_at lw_m9 32 rfl) rfl
theorem q2097 : (Jvm.Cond.code ({ cls := "TubBitesModel", name := "go", desc := "(III)I" } : Jvm.MethodName) prog_23_method_86_code (5 : Nat) (Option.some Jvm.ClassFile.FieldType.int)) ∈ lw_all := lw_g (lw_at lw_m9 33 rfl) rfl
theorem q2098 : (Jvm.Cond.methodLink "TubBitesModel" (575 : Nat) ({ cls := "TubBitesModel", name := "act", desc := "()V" } : Jvm.MethodName)) ∈ lw_all := lw_g (lw_at lw_m9 34 rfl) rfl
theorem q2099 : (Jvm.Cond.privateMethod ({ cls := "TubBitesModel", name := "act", desc := "()V" } : Jvm.MethodName)) ∈ lw_tbl := lw_at lw_m9 35 rfl
theorem q2100 : (Jvm.Cond.instanceMethod ({ cls := "TubBitesModel", name := "act", desc := "()V" } : Jvm.MethodName)) ∈ lw_all := lw_g (lw_at lw_m9 36 rfl) rfl
theorem q2101 : (Jvm.Cond.code ({ cls := "TubBitesModel", name := "act", desc := "()V" } : Jvm.MethodName) prog_23_method_84_code (2 : Nat) (Option.none : Option Jvm.ClassFile.FieldType)) ∈ lw_all := lw_g (lw_at lw_m9 37 rfl) rfl
theorem q2102 : (Jvm.Cond.methodLink "TubBitesModel" (554 : Nat) ({ cls := "TubBitesModel", name := "tries", desc := "(III)Z" } : Jvm.MethodName)) ∈ lw_all := lw_g (lw_at lw_m9 38 rfl) rfl
theorem q2103 : (Jvm.Cond.privateMethod ({ cls := "TubBitesModel", name := "tries", desc := "(III)Z" } : Jvm.MethodName)) ∈ lw_tbl := lw_at lw_m9 39 rfl
theorem q2104 : (Jvm.Cond.instanceMethod ({ cls := "TubBitesModel", name := "tries", desc := "(III)Z" } : Jvm.MethodName)) ∈ lw_all := lw_g (lw_at lw_m9 40 rfl) rfl
theorem q2105 : (Jvm.Cond.code ({ cls := "TubBitesModel", name := "tries", desc := "(III)Z" } : Jvm.MethodName) prog_23_method_73_code (7 : Nat) (Option.some Jvm.ClassFile.FieldType.boolean)) ∈ lw_all := lw_g (lw_at lw_m9 41 rfl) rfl
theorem q2106 : (Jvm.Cond.methodLink "TubBitesModel" (541 : Nat) ({ cls := "TubBitesModel", name := "get", desc := "(III)V" } : Jvm.MethodName)) ∈ lw_all := lw_g (lw_at lw_m9 42 rfl) rfl
theorem q2107 : (Jvm.Cond.privateMethod ({ cls := "TubBitesModel", name := "get", desc := "(III)V" } : Jvm.MethodName)) ∈ lw_tbl := lw_at lw_m9 43 rfl
theorem q2108 : (Jvm.Cond.instanceMethod ({ cls := "TubBitesModel", name := "get", desc := "(III)V" } : Jvm.MethodName)) ∈ lw_all := lw_g (lw_at lw_m9 44 rfl) rfl
theorem q2109 : (Jvm.Cond.code ({ cls := "TubBitesModel", name := "get", desc := "(III)V" } : Jvm.MethodName) prog_23_method_71_code (4 : Nat) (Option.none : Option Jvm.ClassFile.FieldType)) ∈ lw_all := lw_g (lw_at lw_m9 45 rfl) rfl
theorem q2110 : (Jvm.Cond.methodLink "TubBitesModel" (532 : Nat) ({ cls := "TubBitesModel", name := "spend", desc := "(II)V" } : Jvm.MethodName)) ∈ lw_all := lw_g (lw_at lw_m9 46 rfl) rfl
theorem q2111 : (Jvm.Cond.privateMethod ({ cls := "TubBitesModel", name := "spend", desc := "(II)V" } : Jvm.MethodName)) ∈ lw_tbl := lw_at lw_m9 47 rfl
theorem q2112 : (Jvm.Cond.instanceMethod ({ cls := "TubBitesModel", name := "spend", desc := "(II)V" } : Jvm.MethodName)) ∈ lw_all := lw_g (lw_at lw_m9 48 rfl) rfl
theorem q2113 : (Jvm.Cond.code ({ cls := "TubBitesModel", name := "spend", desc := "(II)V" } : Jvm.MethodName) prog_23_method_70_code (3 : Nat) (Option.none : Option Jvm.ClassFile.FieldType)) ∈ lw_all := lw_g (lw_at lw_m9 49 rfl) rfl
theorem q2114 : (Jvm.Cond.methodLink "TubBitesModel" (529 : Nat) ({ cls := "TubBitesModel", name := "seconds", desc := "(I)I" } : Jvm.MethodName)) ∈ lw_all := lw_g (lw_at lw_m9 50 rfl) rfl
theorem q2115 : (Jvm.Cond.static ({ cls := "TubBitesModel", name := "seconds", desc := "(I)I" } : Jvm.MethodName)) ∈ lw_all := lw_g (lw_at lw_m9 51 rfl) rfl
theorem q2116 : (Jvm.Cond.code ({ cls := "TubBitesModel", name := "seconds", desc := "(I)I" } : Jvm.MethodName) prog_23_method_63_code (1 : Nat) (Option.some Jvm.ClassFile.FieldType.int)) ∈ lw_all := lw_g (lw_at lw_m9 52 rfl) rfl
theorem q2117 : (Jvm.Cond.methodLink "TubBitesModel" (545 : Nat) ({ cls := "TubBitesModel", name := "miss", desc := "(III)V" } : Jvm.MethodName)) ∈ lw_all := lw_g (lw_at lw_m9 53 rfl) rfl
theorem q2118 : (Jvm.Cond.privateMethod ({ cls := "TubBitesModel", name := "miss", desc := "(III)V" } : Jvm.MethodName)) ∈ lw_tbl := lw_at lw_m9 54 rfl
theorem q2119 : (Jvm.Cond.instanceMethod ({ cls := "TubBitesModel", name := "miss", desc := "(III)V" } : Jvm.MethodName)) ∈ lw_all := lw_g (lw_at lw_m9 55 rfl) rfl
theorem q2120 : (Jvm.Cond.code ({ cls := "TubBitesModel", name := "miss", desc := "(III)V" } : Jvm.MethodName) prog_23_method_72_code (4 : Nat) (Option.none : Option Jvm.ClassFile.FieldType)) ∈ lw_all := lw_g (lw_at lw_m9 56 rfl) rfl
theorem q2121 : (Jvm.Cond.methodLink "TubBitesModel" (535 : Nat) ({ cls := "TubBitesModel", name := "push", desc := "(II)V" } : Jvm.MethodName)) ∈ lw_all := lw_g (lw_at lw_m9 57 rfl) rfl
theorem q2122 : (Jvm.Cond.privateMethod ({ cls := "TubBitesModel", name := "push", desc := "(II)V" } : Jvm.MethodName)) ∈ lw_tbl := lw_at lw_m9 58 rfl
theorem q2123 : (Jvm.Cond.instanceMethod ({ cls := "TubBitesModel", name := "push", desc := "(II)V" } : Jvm.MethodName)) ∈ lw_all := lw_g (lw_at lw_m9 59 rfl) rfl
theorem q2124 : (Jvm.Cond.code ({ cls := "TubBitesModel", name := "push", desc := "(II)V" } : Jvm.MethodName) prog_23_method_69_code (8 : Nat) (Option.none : Option Jvm.ClassFile.FieldType)) ∈ lw_all := lw_g (lw_at lw_m9 60 rfl) rfl
theorem q2125 : (Jvm.Cond.methodLink "TubBitesModel" (526 : Nat) ({ cls := "TubBitesModel", name := "isCell", desc := "(II)Z" } : Jvm.MethodName)) ∈ lw_all := lw_g (lw_at lw_m9 61 rfl) rfl
theorem q2126 : (Jvm.Cond.privateMethod ({ cls := "TubBitesModel", name := "isCell", desc := "(II)Z" } : Jvm.MethodName)) ∈ lw_tbl := lw_at lw_m9 62 rfl
theorem q2127 : (Jvm.Cond.instanceMethod ({ cls := "TubBitesModel", name := "isCell", desc := "(II)Z" } : Jvm.MethodName)) ∈ lw_all := lw_g (lw_at lw_m9 63 rfl) rfl
theorem q2128 : (Jvm.Cond.code ({ cls := "TubBitesModel", name := "isCell", desc := "(II)Z" } : Jvm.MethodName) prog_23_method_54_code (3 : Nat) (Option.some Jvm.ClassFile.FieldType.boolean)) ∈ lw_all := lw_g (lw_at lw_m9 64 rfl) rfl
theorem q2130 : (Jvm.Cond.instanceMethod ({ cls := "TubBitesModel", name := "breathe", desc := "(I)I" } : Jvm.MethodName)) ∈ lw_all := lw_g (lw_at lw_m9 66 rfl) rfl
theorem q2131 : (Jvm.Cond.selects "TubBitesModel" ({ cls := "TubBitesModel", name := "breathe", desc := "(I)I" } : Jvm.MethodName) ({ cls := "TubBitesModel", name := "breathe", desc := "(I)I" } : Jvm.MethodName)) ∈ lw_all := lw_g (lw_at lw_m9 67 rfl) rfl
theorem q2132 : (Jvm.Cond.code ({ cls := "TubBitesModel", name := "breathe", desc := "(I)I" } : Jvm.MethodName) prog_23_method_87_code (2 : Nat) (Option.some Jvm.ClassFile.FieldType.int)) ∈ lw_all := lw_g (lw_at lw_m9 68 rfl) rfl
theorem q2133 : (Jvm.Cond.methodLink "TubBitesModel" (557 : Nat) ({ cls := "TubBitesModel", name := "breathes", desc := "(I)V" } : Jvm.MethodName)) ∈ lw_all := lw_g (lw_at lw_m9 69 rfl) rfl
theorem q2134 : (Jvm.Cond.privateMethod ({ cls := "TubBitesModel", name := "breathes", desc := "(I)V" } : Jvm.MethodName)) ∈ lw_tbl := lw_at lw_m9 70 rfl
theorem q2135 : (Jvm.Cond.instanceMethod ({ cls := "TubBitesModel", name := "breathes", desc := "(I)V" } : Jvm.MethodName)) ∈ lw_all := lw_g (lw_at lw_m9 71 rfl) rfl
theorem q2136 : (Jvm.Cond.code ({ cls := "TubBitesModel", name := "breathes", desc := "(I)V" } : Jvm.MethodName) prog_23_method_74_code (2 : Nat) (Option.none : Option Jvm.ClassFile.FieldType)) ∈ lw_all := lw_g (lw_at lw_m9 72 rfl) rfl
theorem q2138 : (Jvm.Cond.instanceMethod ({ cls := "TubBitesModel", name := "wave", desc := "(I)I" } : Jvm.MethodName)) ∈ lw_all := lw_g (lw_at lw_m9 74 rfl) rfl
theorem q2139 : (Jvm.Cond.selects "TubBitesModel" ({ cls := "TubBitesModel", name := "wave", desc := "(I)I" } : Jvm.MethodName) ({ cls := "TubBitesModel", name := "wave", desc := "(I)I" } : Jvm.MethodName)) ∈ lw_all := lw_g (lw_at lw_m9 75 rfl) rfl
theorem q2140 : (Jvm.Cond.code ({ cls := "TubBitesModel", name := "wave", desc := "(I)I" } : Jvm.MethodName) prog_23_method_90_code (3 : Nat) (Option.some Jvm.ClassFile.FieldType.int)) ∈ lw_all := lw_g (lw_at lw_m9 76 rfl) rfl
theorem q2141 : (Jvm.Cond.methodLink "TubBitesModel" (581 : Nat) ({ cls := "TubBitesModel", name := "wavesTo", desc := "(I)I" } : Jvm.MethodName)) ∈ lw_all := lw_g (lw_at lw_m9 77 rfl) rfl
theorem q2142 : (Jvm.Cond.privateMethod ({ cls := "TubBitesModel", name := "wavesTo", desc := "(I)I" } : Jvm.MethodName)) ∈ lw_tbl := lw_at lw_m9 78 rfl
theorem q2143 : (Jvm.Cond.instanceMethod ({ cls := "TubBitesModel", name := "wavesTo", desc := "(I)I" } : Jvm.MethodName)) ∈ lw_all := lw_g (lw_at lw_m9 79 rfl) rfl
theorem q2144 : (Jvm.Cond.code ({ cls := "TubBitesModel", name := "wavesTo", desc := "(I)I" } : Jvm.MethodName) prog_23_method_89_code (8 : Nat) (Option.some Jvm.ClassFile.FieldType.int)) ∈ lw_all := lw_g (lw_at lw_m9 80 rfl) rfl
theorem q2145 : (Jvm.Cond.methodLink "TubBitesModel" (578 : Nat) ({ cls := "TubBitesModel", name := "goesOn", desc := "(III)Z" } : Jvm.MethodName)) ∈ lw_all := lw_g (lw_at lw_m9 81 rfl) rfl
theorem q2146 : (Jvm.Cond.privateMethod ({ cls := "TubBitesModel", name := "goesOn", desc := "(III)Z" } : Jvm.MethodName)) ∈ lw_tbl := lw_at lw_m9 82 rfl
theorem q2147 : (Jvm.Cond.instanceMethod ({ cls := "TubBitesModel", name := "goesOn", desc := "(III)Z" } : Jvm.MethodName)) ∈ lw_all := lw_g (lw_at lw_m9 83 rfl) rfl
theorem q2148 : (Jvm.Cond.code ({ cls := "TubBitesModel", name := "goesOn", desc := "(III)Z" } : Jvm.MethodName) prog_23_method_88_code (7 : Nat) (Option.some Jvm.ClassFile.FieldType.boolean)) ∈ lw_all := lw_g (lw_at lw_m9 84 rfl) rfl
theorem q2150 : (Jvm.Cond.instanceMethod ({ cls := "TubBitesModel", name := "party", desc := "(I)I" } : Jvm.MethodName)) ∈ lw_all := lw_g (lw_at lw_m9 86 rfl) rfl
theorem q2151 : (Jvm.Cond.selects "TubBitesModel" ({ cls := "TubBitesModel", name := "party", desc := "(I)I" } : Jvm.MethodName) ({ cls := "TubBitesModel", name := "party", desc := "(I)I" } : Jvm.MethodName)) ∈ lw_all := lw_g (lw_at lw_m9 87 rfl) rfl
theorem q2152 : (Jvm.Cond.code ({ cls := "TubBitesModel", name := "party", desc := "(I)I" } : Jvm.MethodName) prog_23_method_91_code (5 : Nat) (Option.some Jvm.ClassFile.FieldType.int)) ∈ lw_all := lw_g (lw_at lw_m9 88 rfl) rfl
theorem q2153 : (Jvm.Cond.methodLink "TubBitesModel" (584 : Nat) ({ cls := "TubBitesModel", name := "actsBy", desc := "(II)Z" } : Jvm.MethodName)) ∈ lw_all := lw_g (lw_at lw_m9 89 rfl) rfl
theorem q2154 : (Jvm.Cond.privateMethod ({ cls := "TubBitesModel", name := "actsBy", desc := "(II)Z" } : Jvm.MethodName)) ∈ lw_tbl := lw_at lw_m9 90 rfl
theorem q2155 : (Jvm.Cond.instanceMethod ({ cls := "TubBitesModel", name := "actsBy", desc := "(II)Z" } : Jvm.MethodName)) ∈ lw_all := lw_g (lw_at lw_m9 91 rfl) rfl
theorem q2156 : (Jvm.Cond.code ({ cls := "TubBitesModel", name := "actsBy", desc := "(II)Z" } : Jvm.MethodName) prog_23_method_76_code (4 : Nat) (Option.some Jvm.ClassFile.FieldType.boolean)) ∈ lw_all := lw_g (lw_at lw_m9 92 rfl) rfl
theorem q2158 : (Jvm.Cond.instanceMethod ({ cls := "TubBitesModel", name := "undo", desc := "()Z" } : Jvm.MethodName)) ∈ lw_all := lw_g (lw_at lw_m9 94 rfl) rfl
theorem q2159 : (Jvm.Cond.selects "TubBitesModel" ({ cls := "TubBitesModel", name := "undo", desc := "()Z" } : Jvm.MethodName) ({ cls := "TubBitesModel", name := "undo", desc := "()Z" } : Jvm.MethodName)) ∈ lw_all := lw_g (lw_at lw_m9 95 rfl) rfl
theorem q2160 : (Jvm.Cond.code ({ cls := "TubBitesModel", name := "undo", desc := "()Z" } : Jvm.MethodName) prog_23_method_92_code (1 : Nat) (Option.some Jvm.ClassFile.FieldType.boolean)) ∈ lw_all := lw_g (lw_at lw_m9 96 rfl) rfl
theorem q2161 : (Jvm.Cond.methodLink "TubBitesModel" (587 : Nat) ({ cls := "TubBitesModel", name := "exchange", desc := "(I)V" } : Jvm.MethodName)) ∈ lw_all := lw_g (lw_at lw_m9 97 rfl) rfl
theorem q2162 : (Jvm.Cond.privateMethod ({ cls := "TubBitesModel", name := "exchange", desc := "(I)V" } : Jvm.MethodName)) ∈ lw_tbl := lw_at lw_m9 98 rfl
theorem q2163 : (Jvm.Cond.instanceMethod ({ cls := "TubBitesModel", name := "exchange", desc := "(I)V" } : Jvm.MethodName)) ∈ lw_all := lw_g (lw_at lw_m9 99 rfl) rfl
theorem q2164 : (Jvm.Cond.code ({ cls := "TubBitesModel", name := "exchange", desc := "(I)V" } : Jvm.MethodName) prog_23_method_85_code (4 : Nat) (Option.none : Option Jvm.ClassFile.FieldType)) ∈ lw_all := lw_g (lw_at lw_m9 100 rfl) rfl
theorem q2166 : (Jvm.Cond.instanceMethod ({ cls := "TubBitesModel", name := "redo", desc := "()Z" } : Jvm.MethodName)) ∈ lw_all := lw_g (lw_at lw_m9 102 rfl) rfl
theorem q2167 : (Jvm.Cond.selects "TubBitesModel" ({ cls := "TubBitesModel", name := "redo", desc := "()Z" } : Jvm.MethodName) ({ cls := "TubBitesModel", name := "redo", desc := "()Z" } : Jvm.MethodName)) ∈ lw_all := lw_g (lw_at lw_m9 103 rfl) rfl
theorem q2168 : (Jvm.Cond.code ({ cls := "TubBitesModel", name := "redo", desc := "()Z" } : Jvm.MethodName) prog_23_method_93_code (1 : Nat) (Option.some Jvm.ClassFile.FieldType.boolean)) ∈ lw_all := lw_g (lw_at lw_m9 104 rfl) rfl
theorem q2170 : (Jvm.Cond.instanceMethod ({ cls := "TubBitesModel", name := "best", desc := "(III)I" } : Jvm.MethodName)) ∈ lw_all := lw_g (lw_at lw_m9 106 rfl) rfl
theorem q2171 : (Jvm.Cond.selects "TubBitesModel" ({ cls := "TubBitesModel", name := "best", desc := "(III)I" } : Jvm.MethodName) ({ cls := "TubBitesModel", name := "best", desc := "(III)I" } : Jvm.MethodName)) ∈ lw_all := lw_g (lw_at lw_m9 107 rfl) rfl
theorem q2172 : (Jvm.Cond.code ({ cls := "TubBitesModel", name := "best", desc := "(III)I" } : Jvm.MethodName) prog_23_method_99_code (4 : Nat) (Option.some Jvm.ClassFile.FieldType.int)) ∈ lw_all := lw_g (lw_at lw_m9 108 rfl) rfl
theorem q2173 : (Jvm.Cond.methodLink "TubBitesModel" (606 : Nat) ({ cls := "TubBitesModel", name := "layBest", desc := "(II)Z" } : Jvm.MethodName)) ∈ lw_all := lw_g (lw_at lw_m9 109 rfl) rfl
theorem q2174 : (Jvm.Cond.privateMethod ({ cls := "TubBitesModel", name := "layBest", desc := "(II)Z" } : Jvm.MethodName)) ∈ lw_tbl := lw_at lw_m9 110 rfl
theorem q2175 : (Jvm.Cond.instanceMethod ({ cls := "TubBitesModel", name := "layBest", desc := "(II)Z" } : Jvm.MethodName)) ∈ lw_all := lw_g (lw_at lw_m9 111 rfl) rfl
theorem q2176 : (Jvm.Cond.code ({ cls := "TubBitesModel", name := "layBest", desc := "(II)Z" } : Jvm.MethodName) prog_23_method_98_code (7 : Nat) (Option.some Jvm.ClassFile.FieldType.boolean)) ∈ lw_all := lw_g (lw_at lw_m9 112 rfl) rfl
theorem q2177 : (Jvm.Cond.methodLink "TubBitesModel" (593 : Nat) ({ cls := "TubBitesModel", name := "goDeeper", desc := "(II)V" } : Jvm.MethodName)) ∈ lw_all := lw_g (lw_at lw_m9 113 rfl) rfl
theorem q2178 : (Jvm.Cond.privateMethod ({ cls := "TubBitesModel", name := "goDeeper", desc := "(II)V" } : Jvm.MethodName)) ∈ lw_tbl := lw_at lw_m9 114 rfl
theorem q2179 : (Jvm.Cond.instanceMethod ({ cls := "TubBitesModel", name := "goDeeper", desc := "(II)V" } : Jvm.MethodName)) ∈ lw_all := lw_g (lw_at lw_m9 115 rfl) rfl
theorem q2180 : (Jvm.Cond.code ({ cls := "TubBitesModel", name := "goDeeper", desc := "(II)V" } : Jvm.MethodName) prog_23_method_95_code (4 : Nat) (Option.none : Option Jvm.ClassFile.FieldType)) ∈ lw_all := lw_g (lw_at lw_m9 116 rfl) rfl
theorem q2181 : (Jvm.Cond.methodLink "TubBitesModel" (596 : Nat) ({ cls := "TubBitesModel", name := "loadRow", desc := "(I)V" } : Jvm.MethodName)) ∈ lw_all := lw_g (lw_at lw_m9 117 rfl) rfl
theorem q2182 : (Jvm.Cond.privateMethod ({ cls := "TubBitesModel", name := "loadRow", desc := "(I)V" } : Jvm.MethodName)) ∈ lw_tbl := lw_at lw_m9 118 rfl
theorem q2183 : (Jvm.Cond.instanceMethod ({ cls := "TubBitesModel", name := "loadRow", desc := "(I)V" } : Jvm.MethodName)) ∈ lw_all := lw_g (lw_at lw_m9 119 rfl) rfl
theorem q2184 : (Jvm.Cond.code ({ cls := "TubBitesModel", name := "loadRow", desc := "(I)V" } : Jvm.MethodName) prog_23_method_94_code (3 : Nat) (Option.none : Option Jvm.ClassFile.FieldType)) ∈ lw_all := lw_g (lw_at lw_m9 120 rfl) rfl
theorem q2185 : (Jvm.Cond.methodLink "TubBitesModel" (599 : Nat) ({ cls := "TubBitesModel", name := "mayGo", desc := "(III)Z" } : Jvm.MethodName)) ∈ lw_all := lw_g (lw_at lw_m9 121 rfl) rfl
theorem q2186 : (Jvm.Cond.privateMethod ({ cls := "TubBitesModel", name := "mayGo", desc := "(III)Z" } : Jvm.MethodName)) ∈ lw_tbl := lw_at lw_m9 122 rfl
theorem q2187 : (Jvm.Cond.instanceMethod ({ cls := "TubBitesModel", name := "mayGo", desc := "(III)Z" } : Jvm.MethodName)) ∈ lw_all := lw_g (lw_at lw_m9 123 rfl) rfl
theorem q2188 : (Jvm.Cond.code ({ cls := "TubBitesModel", name := "mayGo", desc := "(III)Z" } : Jvm.MethodName) prog_23_method_96_code (4 : Nat) (Option.some Jvm.ClassFile.FieldType.boolean)) ∈ lw_all := lw_g (lw_at lw_m9 124 rfl) rfl
theorem q2189 : (Jvm.Cond.constant "TubBitesModel" (602 : Nat) (1000000 : Int32)) ∈ lw_all := lw_g (lw_at lw_m9 125 rfl) rfl
theorem q2190 : (Jvm.Cond.methodLink "TubBitesModel" (603 : Nat) ({ cls := "TubBitesModel", name := "weigh", desc := "(II)V" } : Jvm.MethodName)) ∈ lw_all := lw_g (lw_at lw_m9 126 rfl) rfl
theorem q2191 : (Jvm.Cond.privateMethod ({ cls := "TubBitesModel", name := "weigh", desc := "(II)V" } : Jvm.MethodName)) ∈ lw_tbl := lw_at lw_m9 127 rfl
theorem q2192 : (Jvm.Cond.instanceMethod ({ cls := "TubBitesModel", name := "weigh", desc := "(II)V" } : Jvm.MethodName)) ∈ lw_all := lw_g (lw_at lw_m9 128 rfl) rfl
theorem q2193 : (Jvm.Cond.code ({ cls := "TubBitesModel", name := "weigh", desc := "(II)V" } : Jvm.MethodName) prog_23_method_97_code (3 : Nat) (Option.none : Option Jvm.ClassFile.FieldType)) ∈ lw_all := lw_g (lw_at lw_m9 129 rfl) rfl
theorem q2195 : (Jvm.Cond.instanceMethod ({ cls := "TubBitesModel", name := "record", desc := "(III)I" } : Jvm.MethodName)) ∈ lw_all := lw_g (lw_at lw_m9 131 rfl) rfl
theorem q2196 : (Jvm.Cond.selects "TubBitesModel" ({ cls := "TubBitesModel", name := "record", desc := "(III)I" } : Jvm.MethodName) ({ cls := "TubBitesModel", name := "record", desc := "(III)I" } : Jvm.MethodName)) ∈ lw_all := lw_g (lw_at lw_m9 132 rfl) rfl
theorem q2197 : (Jvm.Cond.code ({ cls := "TubBitesModel", name := "record", desc := "(III)I" } : Jvm.MethodName) prog_23_method_100_code (4 : Nat) (Option.some Jvm.ClassFile.FieldType.int)) ∈ lw_all := lw_g (lw_at lw_m9 133 rfl) rfl
theorem q2199 : (Jvm.Cond.instanceMethod ({ cls := "TubBitesModel", name := "easier", desc := "(II)I" } : Jvm.MethodName)) ∈ lw_all := lw_g (lw_at lw_m9 135 rfl) rfl
theorem q2200 : (Jvm.Cond.selects "TubBitesModel" ({ cls := "TubBitesModel", name := "easier", desc := "(II)I" } : Jvm.MethodName) ({ cls := "TubBitesModel", name := "easier", desc := "(II)I" } : Jvm.MethodName)) ∈ lw_all := lw_g (lw_at lw_m9 136 rfl) rfl
theorem q2201 : (Jvm.Cond.code ({ cls := "TubBitesModel", name := "easier", desc := "(II)I" } : Jvm.MethodName) prog_23_method_101_code (5 : Nat) (Option.some Jvm.ClassFile.FieldType.int)) ∈ lw_all := lw_g (lw_at lw_m9 137 rfl) rfl
theorem q2203 : (Jvm.Cond.instanceMethod ({ cls := "TubBitesModel", name := "seat", desc := "(III)I" } : Jvm.MethodName)) ∈ lw_all := lw_g (lw_at lw_m9 139 rfl) rfl
theorem q2204 : (Jvm.Cond.selects "TubBitesModel" ({ cls := "TubBitesModel", name := "seat", desc := "(III)I" } : Jvm.MethodName) ({ cls := "TubBitesModel", name := "seat", desc := "(III)I" } : Jvm.MethodName)) ∈ lw_all := lw_g (lw_at lw_m9 140 rfl) rfl
theorem q2205 : (Jvm.Cond.code ({ cls := "TubBitesModel", name := "seat", desc := "(III)I" } : Jvm.MethodName) prog_23_method_103_code (12 : Nat) (Option.some Jvm.ClassFile.FieldType.int)) ∈ lw_all := lw_g (lw_at lw_m9 141 rfl) rfl
theorem q2206 : (Jvm.Cond.methodLink "TubBitesModel" (609 : Nat) ({ cls := "TubBitesModel", name := "getsAlone", desc := "(II)I" } : Jvm.MethodName)) ∈ lw_all := lw_g (lw_at lw_m9 142 rfl) rfl
theorem q2207 : (Jvm.Cond.privateMethod ({ cls := "TubBitesModel", name := "getsAlone", desc := "(II)I" } : Jvm.MethodName)) ∈ lw_tbl := lw_at lw_m9 143 rfl
theorem q2208 : (Jvm.Cond.instanceMethod ({ cls := "TubBitesModel", name := "getsAlone", desc := "(II)I" } : Jvm.MethodName)) ∈ lw_all := lw_g (lw_at lw_m9 144 rfl) rfl
theorem q2209 : (Jvm.Cond.code ({ cls := "TubBitesModel", name := "getsAlone", desc := "(II)I" } : Jvm.MethodName) prog_23_method_102_code (5 : Nat) (Option.some Jvm.ClassFile.FieldType.int)) ∈ lw_all := lw_g (lw_at lw_m9 145 rfl) rfl
theorem q2211 : (Jvm.Cond.instanceMethod ({ cls := "TubBitesModel", name := "order", desc := "(I)I" } : Jvm.MethodName)) ∈ lw_all := lw_g (lw_at lw_m9 147 rfl) rfl
theorem q2212 : (Jvm.Cond.selects "TubBitesModel" ({ cls := "TubBitesModel", name := "order", desc := "(I)I" } : Jvm.MethodName) ({ cls := "TubBitesModel", name := "order", desc := "(I)I" } : Jvm.MethodName)) ∈ lw_all := lw_g (lw_at lw_m9 148 rfl) rfl
theorem q2213 : (Jvm.Cond.code ({ cls := "TubBitesModel", name := "order", desc := "(I)I" } : Jvm.MethodName) prog_23_method_105_code (7 : Nat) (Option.some Jvm.ClassFile.FieldType.int)) ∈ lw_all := lw_g (lw_at lw_m9 149 rfl) rfl
theorem q2214 : (Jvm.Cond.methodLink "TubBitesModel" (612 : Nat) ({ cls := "TubBitesModel", name := "layTurn", desc := "(I)Z" } : Jvm.MethodName)) ∈ lw_all := lw_g (lw_at lw_m9 150 rfl) rfl
theorem q2215 : (Jvm.Cond.privateMethod ({ cls := "TubBitesModel", name := "layTurn", desc := "(I)Z" } : Jvm.MethodName)) ∈ lw_tbl := lw_at lw_m9 151 rfl
theorem q2216 : (Jvm.Cond.instanceMethod ({ cls := "TubBitesModel", name := "layTurn", desc := "(I)Z" } : Jvm.MethodName)) ∈ lw_all := lw_g (lw_at lw_m9 152 rfl) rfl
theorem q2217 : (Jvm.Cond.code ({ cls := "TubBitesModel", name := "layTurn", desc := "(I)Z" } : Jvm.MethodName) prog_23_method_104_code (4 : Nat) (Option.some Jvm.ClassFile.FieldType.boolean)) ∈ lw_all := lw_g (lw_at lw_m9 153 rfl) rfl
theorem q2219 : (Jvm.Cond.instanceMethod ({ cls := "TubBitesModel", name := "drives", desc := "(III)I" } : Jvm.MethodName)) ∈ lw_all := lw_g (lw_at lw_m9 155 rfl) rfl
theorem q2220 : (Jvm.Cond.selects "TubBitesModel" ({ cls := "TubBitesModel", name := "drives", desc := "(III)I" } : Jvm.MethodName) ({ cls := "TubBitesModel", name := "drives", desc := "(III)I" } : Jvm.MethodName)) ∈ lw_all := lw_g (lw_at lw_m9 156 rfl) rfl
theorem q2221 : (Jvm.Cond.code ({ cls := "TubBitesModel", name := "drives", desc := "(III)I" } : Jvm.MethodName) prog_23_method_107_code (8 : Nat) (Option.some Jvm.ClassFile.FieldType.int)) ∈ lw_all := lw_g (lw_at lw_m9 157 rfl) rfl
theorem q2222 : (Jvm.Cond.methodLink "TubBitesModel" (615 : Nat) ({ cls := "TubBitesModel", name := "doesDrive", desc := "(IIIII)Z" } : Jvm.MethodName)) ∈ lw_all := lw_g (lw_at lw_m9 158 rfl) rfl
theorem q2223 : (Jvm.Cond.privateMethod ({ cls := "TubBitesModel", name := "doesDrive", desc := "(IIIII)Z" } : Jvm.MethodName)) ∈ lw_tbl := lw_at lw_m9 159 rfl
theorem q2224 : (Jvm.Cond.instanceMethod ({ cls := "TubBitesModel", name := "doesDrive", desc := "(IIIII)Z" } : Jvm.MethodName)) ∈ lw_all := lw_g (lw_at lw_m9 160 rfl) rfl
theorem q2225 : (Jvm.Cond.code ({ cls := "TubBitesModel", name := "doesDrive", desc := "(IIIII)Z" } : Jvm.MethodName) prog_23_method_106_code (8 : Nat) (Option.some Jvm.ClassFile.FieldType.boolean)) ∈ lw_all := lw_g (lw_at lw_m9 161 rfl) rfl
theorem q2227 : (Jvm.Cond.instanceMethod ({ cls := "TubBitesModel", name := "gone", desc := "(I)I" } : Jvm.MethodName)) ∈ lw_all := lw_g (lw_at lw_m9 163 rfl) rfl
theorem q2228 : (Jvm.Cond.selects "TubBitesModel" ({ cls := "TubBitesModel", name := "gone", desc := "(I)I" } : Jvm.MethodName) ({ cls := "TubBitesModel", name := "gone", desc := "(I)I" } : Jvm.MethodName)) ∈ lw_all := lw_g (lw_at lw_m9 164 rfl) rfl
theorem q2229 : (Jvm.Cond.code ({ cls := "TubBitesModel", name := "gone", desc := "(I)I" } : Jvm.MethodName) prog_23_method_110_code (2 : Nat) (Option.some Jvm.ClassFile.FieldType.int)) ∈ lw_all := lw_g (lw_at lw_m9 165 rfl) rfl
theorem q2230 : (Jvm.Cond.methodLink "TubBitesModel" (622 : Nat) ({ cls := "TubBitesModel", name := "afloatSet", desc := "()I" } : Jvm.MethodName)) ∈ lw_all := lw_g (lw_at lw_m9 166 rfl) rfl
theorem q2231 : (Jvm.Cond.privateMethod ({ cls := "TubBitesModel", name := "afloatSet", desc := "()I" } : Jvm.MethodName)) ∈ lw_tbl := lw_at lw_m9 167 rfl
theorem q2232 : (Jvm.Cond.instanceMethod ({ cls := "TubBitesModel", name := "afloatSet", desc := "()I" } : Jvm.MethodName)) ∈ lw_all := lw_g (lw_at lw_m9 168 rfl) rfl
theorem q2233 : (Jvm.Cond.code ({ cls := "TubBitesModel", name := "afloatSet", desc := "()I" } : Jvm.MethodName) prog_23_method_109_code (3 : Nat) (Option.some Jvm.ClassFile.FieldType.int)) ∈ lw_all := lw_g (lw_at lw_m9 169 rfl) rfl
theorem q2234 : (Jvm.Cond.methodLink "TubBitesModel" (625 : Nat) ({ cls := "TubBitesModel", name := "goneOf", desc := "(I)I" } : Jvm.MethodName)) ∈ lw_all := lw_g (lw_at lw_m9 170 rfl) rfl
theorem q2235 : (Jvm.Cond.privateMethod ({ cls := "TubBitesModel", name := "goneOf", desc := "(I)I" } : Jvm.MethodName)) ∈ lw_tbl := lw_at lw_m9 171 rfl
theorem q2236 : (Jvm.Cond.instanceMethod ({ cls := "TubBitesModel", name := "goneOf", desc := "(I)I" } : Jvm.MethodName)) ∈ lw_all := lw_g (lw_at lw_m9 172 rfl) rfl
theorem q2237 : (Jvm.Cond.code ({ cls := "TubBitesModel", name := "goneOf", desc := "(I)I" } : Jvm.MethodName) prog_23_method_108_code (4 : Nat) (Option.some Jvm.ClassFile.FieldType.int)) ∈ lw_all := lw_g (lw_at lw_m9 173 rfl) rfl
theorem q2238 : (Jvm.Cond.methodLink "TubBitesModel" (619 : Nat) ({ cls := "TubBitesModel", name := "afloatAll", desc := "()I" } : Jvm.MethodName)) ∈ lw_all := lw_g (lw_at lw_m9 174 rfl) rfl
theorem q2239 : (Jvm.Cond.privateMethod ({ cls := "TubBitesModel", name := "afloatAll", desc := "()I" } : Jvm.MethodName)) ∈ lw_tbl := lw_at lw_m9 175 rfl
theorem q2240 : (Jvm.Cond.instanceMethod ({ cls := "TubBitesModel", name := "afloatAll", desc := "()I" } : Jvm.MethodName)) ∈ lw_all := lw_g (lw_at lw_m9 176 rfl) rfl
theorem q2241 : (Jvm.Cond.code ({ cls := "TubBitesModel", name := "afloatAll", desc := "()I" } : Jvm.MethodName) prog_23_method_77_code (3 : Nat) (Option.some Jvm.ClassFile.FieldType.int)) ∈ lw_all := lw_g (lw_at lw_m9 177 rfl) rfl
theorem q2243 : (Jvm.Cond.instanceMethod ({ cls := "TubBitesModel", name := "provide", desc := "(II)I" } : Jvm.MethodName)) ∈ lw_all := lw_g (lw_at lw_m9 179 rfl) rfl
theorem q2244 : (Jvm.Cond.selects "TubBitesModel" ({ cls := "TubBitesModel", name := "provide", desc := "(II)I" } : Jvm.MethodName) ({ cls := "TubBitesModel", name := "provide", desc := "(II)I" } : Jvm.MethodName)) ∈ lw_all := lw_g (lw_at lw_m9 180 rfl) rfl
theorem q2245 : (Jvm.Cond.code ({ cls := "TubBitesModel", name := "provide", desc := "(II)I" } : Jvm.MethodName) prog_23_method_112_code (7 : Nat) (Option.some Jvm.ClassFile.FieldType.int)) ∈ lw_all := lw_g (lw_at lw_m9 181 rfl) rfl
theorem q2246 : (Jvm.Cond.methodLink "TubBitesModel" (628 : Nat) ({ cls := "TubBitesModel", name := "members", desc := "(I)I" } : Jvm.MethodName)) ∈ lw_all := lw_g (lw_at lw_m9 182 rfl) rfl
theorem q2247 : (Jvm.Cond.static ({ cls := "TubBitesModel", name := "members", desc := "(I)I" } : Jvm.MethodName)) ∈ lw_all := lw_g (lw_at lw_m9 183 rfl) rfl
theorem q2248 : (Jvm.Cond.code ({ cls := "TubBitesModel", name := "members", desc := "(I)I" } : Jvm.MethodName) prog_23_method_111_code (3 : Nat) (Option.some Jvm.ClassFile.FieldType.int)) ∈ lw_all := lw_g (lw_at lw_m9 184 rfl) rfl
theorem q2250 : (Jvm.Cond.instanceMethod ({ cls := "TubBitesModel", name := "match", desc := "(II)I" } : Jvm.MethodName)) ∈ lw_all := lw_g (lw_at lw_m9 186 rfl) rfl
theorem q2251 : (Jvm.Cond.selects "TubBitesModel" ({ cls := "TubBitesModel", name := "match", desc := "(II)I" } : Jvm.MethodName) ({ cls := "TubBitesModel", name := "match", desc := "(II)I" } : Jvm.MethodName)) ∈ lw_all := lw_g (lw_at lw_m9 187 rfl) rfl
theorem q2252 : (Jvm.Cond.code ({ cls := "TubBitesModel", name := "match", desc := "(II)I" } : Jvm.MethodName) prog_23_method_114_code (3 : Nat) (Option.some Jvm.ClassFile.FieldType.int)) ∈ lw_all := lw_g (lw_at lw_m9 188 rfl) rfl
theorem q2253 : (Jvm.Cond.methodLink "TubBitesModel" (631 : Nat) ({ cls := "TubBitesModel", name := "isRule", desc := "(I)Z" } : Jvm.MethodName)) ∈ lw_all := lw_g (lw_at lw_m9 189 rfl) rfl
theorem q2254 : (Jvm.Cond.privateMethod ({ cls := "TubBitesModel", name := "isRule", desc := "(I)Z" } : Jvm.MethodName)) ∈ lw_tbl := lw_at lw_m9 190 rfl
theorem q2255 : (Jvm.Cond.instanceMethod ({ cls := "TubBitesModel", name := "isRule", desc := "(I)Z" } : Jvm.MethodName)) ∈ lw_all := lw_g (lw_at lw_m9 191 rfl) rfl
theorem q2256 : (Jvm.Cond.code ({ cls := "TubBitesModel", name := "isRule", desc := "(I)Z" } : Jvm.MethodName) prog_23_method_53_code (2 : Nat) (Option.some Jvm.ClassFile.FieldType.boolean)) ∈ lw_all := lw_g (lw_at lw_m9 192 rfl) rfl
theorem q2257 : (Jvm.Cond.methodLink "TubBitesModel" (634 : Nat) ({ cls := "TubBitesModel", name := "matchOf", desc := "(II)I" } : Jvm.MethodName)) ∈ lw_all := lw_g (lw_at lw_m9 193 rfl) rfl
theorem q2258 : (Jvm.Cond.privateMethod ({ cls := "TubBitesModel", name := "matchOf", desc := "(II)I" } : Jvm.MethodName)) ∈ lw_tbl := lw_at lw_m9 194 rfl
theorem q2259 : (Jvm.Cond.instanceMethod ({ cls := "TubBitesModel", name := "matchOf", desc := "(II)I" } : Jvm.MethodName)) ∈ lw_all := lw_g (lw_at lw_m9 195 rfl) rfl
theorem q2260 : (Jvm.Cond.code ({ cls := "TubBitesModel", name := "matchOf", desc := "(II)I" } : Jvm.MethodName) prog_23_method_113_code (5 : Nat) (Option.some Jvm.ClassFile.FieldType.int)) ∈ lw_all := lw_g (lw_at lw_m9 196 rfl) rfl
theorem q2261 : (Jvm.Cond.constant "TubBitesModel" (637 : Nat) (-1000000 : Int32)) ∈ lw_all := lw_g (lw_at lw_m9 197 rfl) rfl
theorem q2263 : (Jvm.Cond.instanceMethod ({ cls := "TubBitesModel", name := "reply", desc := "(I)I" } : Jvm.MethodName)) ∈ lw_all := lw_g (lw_at lw_m9 199 rfl) rfl
theorem q2264 : (Jvm.Cond.selects "TubBitesModel" ({ cls := "TubBitesModel", name := "reply", desc := "(I)I" } : Jvm.MethodName) ({ cls := "TubBitesModel", name := "reply", desc := "(I)I" } : Jvm.MethodName)) ∈ lw_all := lw_g (lw_at lw_m9 200 rfl) rfl
theorem q2265 : (Jvm.Cond.code ({ cls := "TubBitesModel", name := "reply", desc := "(I)I" } : Jvm.MethodName) prog_23_method_115_code (6 : Nat) (Option.some Jvm.ClassFile.FieldType.int)) ∈ lw_all := lw_g (lw_at lw_m9 201 rfl) rfl
theorem q2267 : (Jvm.Cond.instanceMethod ({ cls := "TubBitesModel", name := "rests", desc := "()I" } : Jvm.MethodName)) ∈ lw_all := lw_g (lw_at lw_m9 203 rfl) rfl
theorem q2268 : (Jvm.Cond.selects "TubBitesModel" ({ cls := "TubBitesModel", name := "rests", desc := "()I" } : Jvm.MethodName) ({ cls := "TubBitesModel", name := "rests", desc := "()I" } : Jvm.MethodName)) ∈ lw_all := lw_g (lw_at lw_m9 204 rfl) rfl
theorem q2269 : (Jvm.Cond.code ({ cls := "TubBitesModel", name := "rests", desc := "()I" } : Jvm.MethodName) prog_23_method_117_code (3 : Nat) (Option.some Jvm.ClassFile.FieldType.int)) ∈ lw_all := lw_g (lw_at lw_m9 205 rfl) rfl
theorem q2270 : (Jvm.Cond.methodLink "TubBitesModel" (638 : Nat) ({ cls := "TubBitesModel", name := "doesRest", desc := "(II)Z" } : Jvm.MethodName)) ∈ lw_all := lw_g (lw_at lw_m9 206 rfl) rfl
theorem q2271 : (Jvm.Cond.privateMethod ({ cls := "TubBitesModel", name := "doesRest", desc := "(II)Z" } : Jvm.MethodName)) ∈ lw_tbl := lw_at lw_m9 207 rfl
theorem q2272 : (Jvm.Cond.instanceMethod ({ cls := "TubBitesModel", name := "doesRest", desc := "(II)Z" } : Jvm.MethodName)) ∈ lw_all := lw_g (lw_at lw_m9 208 rfl) rfl
theorem q2273 : (Jvm.Cond.code ({ cls := "TubBitesModel", name := "doesRest", desc := "(II)Z" } : Jvm.MethodName) prog_23_method_116_code (5 : Nat) (Option.some Jvm.ClassFile.FieldType.boolean)) ∈ lw_all := lw_g (lw_at lw_m9 209 rfl) rfl
theorem q2275 : (Jvm.Cond.instanceMethod ({ cls := "TubBitesModel", name := "waves", desc := "(III)I" } : Jvm.MethodName)) ∈ lw_all := lw_g (lw_at lw_m9 211 rfl) rfl
theorem q2276 : (Jvm.Cond.selects "TubBitesModel" ({ cls := "TubBitesModel", name := "waves", desc := "(III)I" } : Jvm.MethodName) ({ cls := "TubBitesModel", name := "waves", desc := "(III)I" } : Jvm.MethodName)) ∈ lw_all := lw_g (lw_at lw_m9 212 rfl) rfl
theorem q2277 : (Jvm.Cond.code ({ cls := "TubBitesModel", name := "waves", desc := "(III)I" } : Jvm.MethodName) prog_23_method_119_code (7 : Nat) (Option.some Jvm.ClassFile.FieldType.int)) ∈ lw_all := lw_g (lw_at lw_m9 213 rfl) rfl
theorem q2278 : (Jvm.Cond.methodLink "TubBitesModel" (641 : Nat) ({ cls := "TubBitesModel", name := "comes", desc := "(IIIII)Z" } : Jvm.MethodName)) ∈ lw_all := lw_g (lw_at lw_m9 214 rfl) rfl
theorem q2279 : (Jvm.Cond.privateMethod ({ cls := "TubBitesModel", name := "comes", desc := "(IIIII)Z" } : Jvm.MethodName)) ∈ lw_tbl := lw_at lw_m9 215 rfl
theorem q2280 : (Jvm.Cond.instanceMethod ({ cls := "TubBitesModel", name := "comes", desc := "(IIIII)Z" } : Jvm.MethodName)) ∈ lw_all := lw_g (lw_at lw_m9 216 rfl) rfl
theorem q2281 : (Jvm.Cond.code ({ cls := "TubBitesModel", name := "comes", desc := "(IIIII)Z" } : Jvm.MethodName) prog_23_method_118_code (7 : Nat) (Option.some Jvm.ClassFile.FieldType.boolean)) ∈ lw_all := lw_g (lw_at lw_m9 217 rfl) rfl
theorem q2283 : (Jvm.Cond.instanceMethod ({ cls := "TubBitesModel", name := "fill", desc := "(III)I" } : Jvm.MethodName)) ∈ lw_all := lw_g (lw_at lw_m9 219 rfl) rfl
theorem q2284 : (Jvm.Cond.selects "TubBitesModel" ({ cls := "TubBitesModel", name := "fill", desc := "(III)I" } : Jvm.MethodName) ({ cls := "TubBitesModel", name := "fill", desc := "(III)I" } : Jvm.MethodName)) ∈ lw_all := lw_g (lw_at lw_m9 220 rfl) rfl
theorem q2285 : (Jvm.Cond.code ({ cls := "TubBitesModel", name := "fill", desc := "(III)I" } : Jvm.MethodName) prog_23_method_121_code (10 : Nat) (Option.some Jvm.ClassFile.FieldType.int)) ∈ lw_all := lw_g (lw_at lw_m9 221 rfl) rfl
theorem q2286 : (Jvm.Cond.methodLink "TubBitesModel" (644 : Nat) ({ cls := "TubBitesModel", name := "lasts", desc := "(II)I" } : Jvm.MethodName)) ∈ lw_all := lw_g (lw_at lw_m9 222 rfl) rfl
theorem q2287 : (Jvm.Cond.privateMethod ({ cls := "TubBitesModel", name := "lasts", desc := "(II)I" } : Jvm.MethodName)) ∈ lw_tbl := lw_at lw_m9 223 rfl
theorem q2288 : (Jvm.Cond.instanceMethod ({ cls := "TubBitesModel", name := "lasts", desc := "(II)I" } : Jvm.MethodName)) ∈ lw_all := lw_g (lw_at lw_m9 224 rfl) rfl
theorem q2289 : (Jvm.Cond.code ({ cls := "TubBitesModel", name := "lasts", desc := "(II)I" } : Jvm.MethodName) prog_23_method_120_code (4 : Nat) (Option.some Jvm.ClassFile.FieldType.int)) ∈ lw_all := lw_g (lw_at lw_m9 225 rfl) rfl
theorem q2291 : (Jvm.Cond.instanceMethod ({ cls := "TubBitesModel", name := "coin", desc := "(II)I" } : Jvm.MethodName)) ∈ lw_all := lw_g (lw_at lw_m9 227 rfl) rfl
theorem q2292 : (Jvm.Cond.selects "TubBitesModel" ({ cls := "TubBitesModel", name := "coin", desc := "(II)I" } : Jvm.MethodName) ({ cls := "TubBitesModel", name := "coin", desc := "(II)I" } : Jvm.MethodName)) ∈ lw_all := lw_g (lw_at lw_m9 228 rfl) rfl
theorem q2293 : (Jvm.Cond.code ({ cls := "TubBitesModel", name := "coin", desc := "(II)I" } : Jvm.MethodName) prog_23_method_123_code (5 : Nat) (Option.some Jvm.ClassFile.FieldType.int)) ∈ lw_all := lw_g (lw_at lw_m9 229 rfl) rfl
theorem q2294 : (Jvm.Cond.methodLink "TubBitesModel" (647 : Nat) ({ cls := "TubBitesModel", name := "common", desc := "(II)I" } : Jvm.MethodName)) ∈ lw_all := lw_g (lw_at lw_m9 230 rfl) rfl
theorem q2295 : (Jvm.Cond.static ({ cls := "TubBitesModel", name := "common", desc := "(II)I" } : Jvm.MethodName)) ∈ lw_all := lw_g (lw_at lw_m9 231 rfl) rfl
theorem q2296 : (Jvm.Cond.code ({ cls := "TubBitesModel", name := "common", desc := "(II)I" } : Jvm.MethodName) prog_23_method_122_code (5 : Nat) (Option.some Jvm.ClassFile.FieldType.int)) ∈ lw_all := lw_g (lw_at lw_m9 232 rfl) rfl
theorem q2298 : (Jvm.Cond.instanceMethod ({ cls := "TubBitesModel", name := "lies", desc := "(I)I" } : Jvm.MethodName)) ∈ lw_all := lw_g (lw_at lw_m9 234 rfl) rfl
theorem q2299 : (Jvm.Cond.selects "TubBitesModel" ({ cls := "TubBitesModel", name := "lies", desc := "(I)I" } : Jvm.MethodName) ({ cls := "TubBitesModel", name := "lies", desc := "(I)I" } : Jvm.MethodName)) ∈ lw_all := lw_g (lw_at lw_m9 235 rfl) rfl
theorem q2300 : (Jvm.Cond.code ({ cls := "TubBitesModel", name := "lies", desc := "(I)I" } : Jvm.MethodName) prog_23_method_124_code (2 : Nat) (Option.some Jvm.ClassFile.FieldType.int)) ∈ lw_all := lw_g (lw_at lw_m9 236 rfl) rfl
theorem q2302 : (Jvm.Cond.instanceMethod ({ cls := "TubBitesModel", name := "pick", desc := "(III)I" } : Jvm.MethodName)) ∈ lw_all := lw_g (lw_at lw_m9 238 rfl) rfl
theorem q2303 : (Jvm.Cond.selects "TubBitesModel" ({ cls := "TubBitesModel", name := "pick", desc := "(III)I" } : Jvm.MethodName) ({ cls := "TubBitesModel", name := "pick", desc := "(III)I" } : Jvm.MethodName)) ∈ lw_all := lw_g (lw_at lw_m9 239 rfl) rfl
theorem q2304 : (Jvm.Cond.code ({ cls := "TubBitesModel", name := "pick", desc := "(III)I" } : Jvm.MethodName) prog_23_method_125_code (4 : Nat) (Option.some Jvm.ClassFile.FieldType.int)) ∈ lw_all := lw_g (lw_at lw_m10 0 rfl) rfl
theorem q2306 : (Jvm.Cond.instanceMethod ({ cls := "TubBitesModel", name := "untell", desc := "(I)Z" } : Jvm.MethodName)) ∈ lw_all := lw_g (lw_at lw_m10 2 rfl) rfl
theorem q2307 : (Jvm.Cond.selects "TubBitesModel" ({ cls := "TubBitesModel", name := "untell", desc := "(I)Z" } : Jvm.MethodName) ({ cls := "TubBitesModel", name := "untell", desc := "(I)Z" } : Jvm.MethodName)) ∈ lw_all := lw_g (lw_at lw_m10 3 rfl) rfl
theorem q2308 : (Jvm.Cond.code ({ cls := "TubBitesModel", name := "untell", desc := "(I)Z" } : Jvm.MethodName) prog_23_method_126_code (2 : Nat) (Option.some Jvm.ClassFile.FieldType.boolean)) ∈ lw_all := lw_g (lw_at lw_m10 4 rfl) rfl
theorem q2310 : (Jvm.Cond.instanceMethod ({ cls := "TubBitesModel", name := "later", desc := "(I)I" } : Jvm.MethodName)) ∈ lw_all := lw_g (lw_at lw_m10 6 rfl) rfl
theorem q2311 : (Jvm.Cond.selects "TubBitesModel" ({ cls := "TubBitesModel", name := "later", desc := "(I)I" } : Jvm.MethodName) ({ cls := "TubBitesModel", name := "later", desc := "(I)I" } : Jvm.MethodName)) ∈ lw_all := lw_g (lw_at lw_m10 7 rfl) rfl
theorem q2312 : (Jvm.Cond.code ({ cls := "TubBitesModel", name := "later", desc := "(I)I" } : Jvm.MethodName) prog_23_method_127_code (2 : Nat) (Option.some Jvm.ClassFile.FieldType.int)) ∈ lw_all := lw_g (lw_at lw_m10 8 rfl) rfl
theorem q2313 : (Jvm.Cond.constant "TubBitesModel" (653 : Nat) (100000 : Int32)) ∈ lw_all := lw_g (lw_at lw_m10 9 rfl) rfl
theorem q2315 : (Jvm.Cond.instanceMethod ({ cls := "TubBitesModel", name := "fits", desc := "(I)I" } : Jvm.MethodName)) ∈ lw_all := lw_g (lw_at lw_m10 11 rfl) rfl
theorem q2316 : (Jvm.Cond.selects "TubBitesModel" ({ cls := "TubBitesModel", name := "fits", desc := "(I)I" } : Jvm.MethodName) ({ cls := "TubBitesModel", name := "fits", desc := "(I)I" } : Jvm.MethodName)) ∈ lw_all := lw_g (lw_at lw_m10 12 rfl) rfl
theorem q2317 : (Jvm.Cond.code ({ cls := "TubBitesModel", name := "fits", desc := "(I)I" } : Jvm.MethodName) prog_23_method_130_code (6 : Nat) (Option.some Jvm.ClassFile.FieldType.int)) ∈ lw_all := lw_g (lw_at lw_m10 13 rfl) rfl
theorem q2318 : (Jvm.Cond.methodLink "TubBitesModel" (654 : Nat) ({ cls := "TubBitesModel", name := "counts", desc := "(II)Z" } : Jvm.MethodName)) ∈ lw_all := lw_g (lw_at lw_m10 14 rfl) rfl
theorem q2319 : (Jvm.Cond.privateMethod ({ cls := "TubBitesModel", name := "counts", desc := "(II)Z" } : Jvm.MethodName)) ∈ lw_tbl := lw_at lw_m10 15 rfl
theorem q2320 : (Jvm.Cond.instanceMethod ({ cls := "TubBitesModel", name := "counts", desc := "(II)Z" } : Jvm.MethodName)) ∈ lw_all := lw_g (lw_at lw_m10 16 rfl) rfl
theorem q2321 : (Jvm.Cond.code ({ cls := "TubBitesModel", name := "counts", desc := "(II)Z" } : Jvm.MethodName) prog_23_method_128_code (3 : Nat) (Option.some Jvm.ClassFile.FieldType.boolean)) ∈ lw_all := lw_g (lw_at lw_m10 17 rfl) rfl
theorem q2322 : (Jvm.Cond.methodLink "TubBitesModel" (657 : Nat) ({ cls := "TubBitesModel", name := "takenBy", desc := "(II)I" } : Jvm.MethodName)) ∈ lw_all := lw_g (lw_at lw_m10 18 rfl) rfl
theorem q2323 : (Jvm.Cond.privateMethod ({ cls := "TubBitesModel", name := "takenBy", desc := "(II)I" } : Jvm.MethodName)) ∈ lw_tbl := lw_at lw_m10 19 rfl
theorem q2324 : (Jvm.Cond.instanceMethod ({ cls := "TubBitesModel", name := "takenBy", desc := "(II)I" } : Jvm.MethodName)) ∈ lw_all := lw_g (lw_at lw_m10 20 rfl) rfl
theorem q2325 : (Jvm.Cond.code ({ cls := "TubBitesModel", name := "takenBy", desc := "(II)I" } : Jvm.MethodName) prog_23_method_129_code (7 : Nat) (Option.some Jvm.ClassFile.FieldType.int)) ∈ lw_all := lw_g (lw_at lw_m10 21 rfl) rfl
theorem q2327 : (Jvm.Cond.instanceMethod ({ cls := "TubBitesModel", name := "nearest", desc := "(II)I" } : Jvm.MethodName)) ∈ lw_all := lw_g (lw_at lw_m10 23 rfl) rfl
theorem q2328 : (Jvm.Cond.selects "TubBitesModel" ({ cls := "TubBitesModel", name := "nearest", desc := "(II)I" } : Jvm.MethodName) ({ cls := "TubBitesModel", name := "nearest", desc := "(II)I" } : Jvm.MethodName)) ∈ lw_all := lw_g (lw_at lw_m10 24 rfl) rfl
theorem q2329 : (Jvm.Cond.code ({ cls := "TubBitesModel", name := "nearest", desc := "(II)I" } : Jvm.MethodName) prog_23_method_132_code (5 : Nat) (Option.some Jvm.ClassFile.FieldType.int)) ∈ lw_all := lw_g (lw_at lw_m10 25 rfl) rfl
theorem q2330 : (Jvm.Cond.methodLink "TubBitesModel" (660 : Nat) ({ cls := "TubBitesModel", name := "falseBy", desc := "(II)I" } : Jvm.MethodName)) ∈ lw_all := lw_g (lw_at lw_m10 26 rfl) rfl
theorem q2331 : (Jvm.Cond.privateMethod ({ cls := "TubBitesModel", name := "falseBy", desc := "(II)I" } : Jvm.MethodName)) ∈ lw_tbl := lw_at lw_m10 27 rfl
theorem q2332 : (Jvm.Cond.instanceMethod ({ cls := "TubBitesModel", name := "falseBy", desc := "(II)I" } : Jvm.MethodName)) ∈ lw_all := lw_g (lw_at lw_m10 28 rfl) rfl
theorem q2333 : (Jvm.Cond.code ({ cls := "TubBitesModel", name := "falseBy", desc := "(II)I" } : Jvm.MethodName) prog_23_method_131_code (5 : Nat) (Option.some Jvm.ClassFile.FieldType.int)) ∈ lw_all := lw_g (lw_at lw_m10 29 rfl) rfl
theorem q2335 : (Jvm.Cond.instanceMethod ({ cls := "TubBitesModel", name := "chance", desc := "(I)J" } : Jvm.MethodName)) ∈ lw_all := lw_g (lw_at lw_m10 31 rfl) rfl
theorem q2336 : (Jvm.Cond.selects "TubBitesModel" ({ cls := "TubBitesModel", name := "chance", desc := "(I)J" } : Jvm.MethodName) ({ cls := "TubBitesModel", name := "chance", desc := "(I)J" } : Jvm.MethodName)) ∈ lw_all := lw_g (lw_at lw_m10 32 rfl) rfl
theorem q2337 : (Jvm.Cond.code ({ cls := "TubBitesModel", name := "chance", desc := "(I)J" } : Jvm.MethodName) prog_23_method_133_code (6 : Nat) (Option.some Jvm.ClassFile.FieldType.long)) ∈ lw_all := lw_g (lw_at lw_m10 33 rfl) rfl
theorem q2338 : (Jvm.Cond.constantLong "TubBitesModel" (663 : Nat) (1000000000000000 : Int64)) ∈ lw_all := lw_g (lw_at lw_m10 34 rfl) rfl
theorem q2340 : (Jvm.Cond.instanceMethod ({ cls := "TubBitesModel", name := "image", desc := "(I)I" } : Jvm.MethodName)) ∈ lw_all := lw_g (lw_at lw_m10 36 rfl) rfl
theorem q2341 : (Jvm.Cond.selects "TubBitesModel" ({ cls := "TubBitesModel", name := "image", desc := "(I)I" } : Jvm.MethodName) ({ cls := "TubBitesModel", name := "image", desc := "(I)I" } : Jvm.MethodName)) ∈ lw_all := lw_g (lw_at lw_m10 37 rfl) rfl
theorem q2342 : (Jvm.Cond.code ({ cls := "TubBitesModel", name := "image", desc := "(I)I" } : Jvm.MethodName) prog_23_method_135_code (3 : Nat) (Option.some Jvm.ClassFile.FieldType.int)) ∈ lw_all := lw_g (lw_at lw_m10 38 rfl) rfl
theorem q2343 : (Jvm.Cond.methodLink "TubBitesModel" (665 : Nat) ({ cls := "TubBitesModel", name := "isBox", desc := "(I)Z" } : Jvm.MethodName)) ∈ lw_all := lw_g (lw_at lw_m10 39 rfl) rfl
theorem q2344 : (Jvm.Cond.static ({ cls := "TubBitesModel", name := "isBox", desc := "(I)Z" } : Jvm.MethodName)) ∈ lw_all := lw_g (lw_at lw_m10 40 rfl) rfl
theorem q2345 : (Jvm.Cond.code ({ cls := "TubBitesModel", name := "isBox", desc := "(I)Z" } : Jvm.MethodName) prog_23_method_134_code (1 : Nat) (Option.some Jvm.ClassFile.FieldType.boolean)) ∈ lw_all := lw_g (lw_at lw_m10 41 rfl) rfl
theorem q2347 : (Jvm.Cond.instanceMethod ({ cls := "TubBitesModel", name := "back", desc := "(I)I" } : Jvm.MethodName)) ∈ lw_all := lw_g (lw_at lw_m10 43 rfl) rfl
theorem q2348 : (Jvm.Cond.selects "TubBitesModel" ({ cls := "TubBitesModel", name := "back", desc := "(I)I" } : Jvm.MethodName) ({ cls := "TubBitesModel", name := "back", desc := "(I)I" } : Jvm.MethodName)) ∈ lw_all := lw_g (lw_at lw_m10 44 rfl) rfl
theorem q2349 : (Jvm.Cond.code ({ cls := "TubBitesModel", name := "back", desc := "(I)I" } : Jvm.MethodName) prog_23_method_136_code (3 : Nat) (Option.some Jvm.ClassFile.FieldType.int)) ∈ lw_all := lw_g (lw_at lw_m10 45 rfl) rfl
theorem q2351 : (Jvm.Cond.instanceMethod ({ cls := "TubBitesModel", name := "about", desc := "(I)I" } : Jvm.MethodName)) ∈ lw_all := lw_g (lw_at lw_m10 47 rfl) rfl
theorem q2352 : (Jvm.Cond.selects "TubBitesModel" ({ cls := "TubBitesModel", name := "about", desc := "(I)I" } : Jvm.MethodName) ({ cls := "TubBitesModel", name := "about", desc := "(I)I" } : Jvm.MethodName)) ∈ lw_all := lw_g (lw_at lw_m10 48 rfl) rfl
theorem q2353 : (Jvm.Cond.code ({ cls := "TubBitesModel", name := "about", desc := "(I)I" } : Jvm.MethodName) prog_23_method_137_code (2 : Nat) (Option.some Jvm.ClassFile.FieldType.int)) ∈ lw_all := lw_g (lw_at lw_m10 49 rfl) rfl
theorem q2371 : (Jvm.Cond.castable "TubBitesModel" "java/lang/Object") ∈ lw_tbl := lw_at lw_m10 67 rfl
theorem in_X4 : ∀ w ∈ wsX40, w ∈ lw_all := lw_in wsX40 [1601, 1603, 1605, 1607, 1609, 1611, 1613, 1615, 1617, 1619, 1621, 1623, 1625, 1627, 1629, 1631, 1633, 1635, 1637, 1639, 1641, 1643, 1645, 1647, 1649, 1651, 1653, 1655, 1657, 1659, 1661, 1663, 1665, 1667, 1669, 1671, 1673, 1675, 1677, 1679, 1681, 1683, 1685, 1687, 1689, 1691, 1693, 1695, 1697, 1699, 1701, 1703, 1705, 1707, 1709, 1711, 1713, 1715, 1717, 1719, 1721, 1723, 1725, 1727, 1729, 1731, 1733, 1735, 1737, 1739, 1741, 1743, 1745, 1747, 1749, 1751, 1753, 1755, 1757, 1759, 1761, 1763, 1765, 1767, 1769, 1771, 1773, 1775, 1777, 1779, 1781, 1783, 1785, 1787, 1789] (by decide +kernel) (by decide +kernel)
