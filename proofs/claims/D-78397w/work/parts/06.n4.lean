/-! GameCalculatorModel -/
set_option maxRecDepth 100000
def RX4 : String := "GameCalculatorModel"
def TX4 : u_T := fun k => match k with
  | 0 => ("GameCalculatorModel", "thrown", "I", false)
  | 1 => ("GameCalculatorModel", "slots", "[I", true)
  | 2 => ("GameCalculatorModel", "saved", "[I", true)
  | 3 => ("GameCalculatorModel", "savedMany", "I", false)
  | 4 => ("GameCalculatorModel", "draftRows", "[I", true)
  | 5 => ("GameCalculatorModel", "draftMany", "[I", true)
  | 6 => ("GameCalculatorModel", "signs", "[I", true)
  | 7 => ("GameCalculatorModel", "signMany", "I", false)
  | 8 => ("GameCalculatorModel", "text", "[I", true)
  | 9 => ("GameCalculatorModel", "length", "I", false)
  | 10 => ("GameCalculatorModel", "ups", "[I", true)
  | 11 => ("GameCalculatorModel", "nodes", "I", false)
  | 12 => ("GameCalculatorModel", "begin", "[I", true)
  | 13 => ("GameCalculatorModel", "leftMany", "[I", true)
  | 14 => ("GameCalculatorModel", "rightMany", "[I", true)
  | 15 => ("GameCalculatorModel", "birth", "[I", true)
  | 16 => ("GameCalculatorModel", "pool", "[I", true)
  | 17 => ("GameCalculatorModel", "pooled", "I", false)
  | 18 => ("GameCalculatorModel", "isAtMost", "[Z", true)
  | 19 => ("GameCalculatorModel", "lefts", "[I", true)
  | 20 => ("GameCalculatorModel", "rights", "[I", true)
  | 21 => ("GameCalculatorModel", "leftCount", "I", false)
  | 22 => ("GameCalculatorModel", "rightCount", "I", false)
  | 23 => ("GameCalculatorModel", "isLow", "[Z", true)
  | 24 => ("GameCalculatorModel", "isHigh", "[Z", true)
  | 25 => ("GameCalculatorModel", "isKept", "[Z", true)
  | 26 => ("GameCalculatorModel", "open", "[I", true)
  | 27 => ("GameCalculatorModel", "map", "[I", true)
  | 28 => ("GameCalculatorModel", "isReached", "[Z", true)
  | 29 => ("GameCalculatorModel", "rank", "[I", true)
  | 30 => ("GameCalculatorModel", "byRank", "[I", true)
  | 31 => ("GameCalculatorModel", "result", "[I", true)
  | 32 => ("GameCalculatorModel", "values", "[J", true)
  | 33 => ("GameCalculatorModel", "isValue", "[Z", true)
  | 34 => ("GameCalculatorModel", "first", "[I", true)
  | 35 => ("GameCalculatorModel", "second", "[I", true)
  | 36 => ("GameCalculatorModel", "firstNodes", "[I", true)
  | 37 => ("GameCalculatorModel", "secondNodes", "[I", true)
  | 38 => ("GameCalculatorModel", "table", "[I", true)
  | 39 => ("GameCalculatorModel", "drafted", "[I", true)
  | 40 => ("GameCalculatorModel", "boards", "[I", true)
  | 41 => ("GameCalculatorModel", "at", "I", false)
  | 42 => ("GameCalculatorModel", "due", "I", false)
  | 43 => ("GameCalculatorModel", "isWrong", "Z", false)
  | 44 => ("GameCalculatorModel", "isRun", "Z", false)
  | 45 => ("GameCalculatorModel", "isFull", "Z", false)
  | 46 => ("GameCalculatorModel", "depth", "I", false)
  | 47 => ("GameCalculatorModel", "kinds", "[I", true)
  | 48 => ("GameCalculatorModel", "isMinus", "[Z", true)
  | 49 => ("GameCalculatorModel", "hasSum", "[Z", true)
  | 50 => ("GameCalculatorModel", "sums", "[I", true)
  | 51 => ("GameCalculatorModel", "elementMany", "[I", true)
  | 52 => ("GameCalculatorModel", "elements", "[I", true)
  | 53 => ("GameCalculatorModel", "term", "[I", true)
  | 54 => ("GameCalculatorModel", "figures", "I", false)
  | 55 => ("GameCalculatorModel", "heats", "[J", true)
  | 56 => ("GameCalculatorModel", "means", "[J", true)
  | 57 => ("GameCalculatorModel", "leftWall", "[J", true)
  | _ => ("GameCalculatorModel", "rightWall", "[J", true)
def tyX4 : Nat → FieldType := fun k => match k with
  | 0 => .int
  | 1 => .array .int
  | 2 => .array .int
  | 3 => .int
  | 4 => .array .int
  | 5 => .array .int
  | 6 => .array .int
  | 7 => .int
  | 8 => .array .int
  | 9 => .int
  | 10 => .array .int
  | 11 => .int
  | 12 => .array .int
  | 13 => .array .int
  | 14 => .array .int
  | 15 => .array .int
  | 16 => .array .int
  | 17 => .int
  | 18 => .array .boolean
  | 19 => .array .int
  | 20 => .array .int
  | 21 => .int
  | 22 => .int
  | 23 => .array .boolean
  | 24 => .array .boolean
  | 25 => .array .boolean
  | 26 => .array .int
  | 27 => .array .int
  | 28 => .array .boolean
  | 29 => .array .int
  | 30 => .array .int
  | 31 => .array .int
  | 32 => .array .long
  | 33 => .array .boolean
  | 34 => .array .int
  | 35 => .array .int
  | 36 => .array .int
  | 37 => .array .int
  | 38 => .array .int
  | 39 => .array .int
  | 40 => .array .int
  | 41 => .int
  | 42 => .int
  | 43 => .boolean
  | 44 => .boolean
  | 45 => .boolean
  | 46 => .int
  | 47 => .array .int
  | 48 => .array .boolean
  | 49 => .array .boolean
  | 50 => .array .int
  | 51 => .array .int
  | 52 => .array .int
  | 53 => .array .int
  | 54 => .int
  | 55 => .array .long
  | 56 => .array .long
  | 57 => .array .long
  | _ => .array .long
abbrev wsX40 : List Cond := u_ws RX4 TX4 59
set_option maxRecDepth 100000 in
theorem nmX4 : ∀ a, a < 59 → ∀ b, b < 59 → a ≠ b → (TX4 a).2.1 ≠ (TX4 b).2.1 := by decide +kernel
set_option maxRecDepth 100000 in
theorem tyX4_ok : ∀ k, k < 59 → parseFieldDescriptor (TX4 k).2.2.1 = some (tyX4 k) := by decide +kernel
abbrev cX4_init : ByteArray := prog_18_method_1_code
def yX4_init : MethodName := ⟨RX4, "<init>", "()V"⟩
def dkwX4_init_17 : List UInt8 := [27, 104, 4, 79, 132, 1, 1, 167, 255, 237, 42, 182, 0, 150, 177]
abbrev dktX4_init_17 : List UInt8 := dkwX4_init_17 ++ []
def dkwX4_init_16 : List UInt8 := [188, 11, 181, 0, 143, 42, 3, 181, 0, 146, 3, 60, 27, 16, 12, 162, 0, 19, 42, 180, 0, 9, 16, 65]
abbrev dktX4_init_16 : List UInt8 := dkwX4_init_16 ++ dktX4_init_17
def dkwX4_init_15 : List UInt8 := [188, 11, 181, 0, 134, 42, 16, 32, 188, 11, 181, 0, 137, 42, 16, 32, 188, 11, 181, 0, 140, 42, 16, 32]
abbrev dktX4_init_15 : List UInt8 := dkwX4_init_15 ++ dktX4_init_16
def dkwX4_init_14 : List UInt8 := [181, 0, 125, 42, 17, 24, 96, 188, 10, 181, 0, 128, 42, 16, 65, 188, 10, 181, 0, 131, 42, 16, 32]
abbrev dktX4_init_14 : List UInt8 := dkwX4_init_14 ++ dktX4_init_15
def dkwX4_init_13 : List UInt8 := [42, 16, 8, 188, 4, 181, 0, 119, 42, 17, 2, 8, 188, 10, 181, 0, 122, 42, 16, 16, 188, 10]
abbrev dktX4_init_13 : List UInt8 := dkwX4_init_13 ++ dktX4_init_14
def dkwX4_init_12 : List UInt8 := [17, 2, 0, 188, 10, 181, 0, 110, 42, 16, 8, 188, 10, 181, 0, 113, 42, 16, 8, 188, 4, 181, 0, 116]
abbrev dktX4_init_12 : List UInt8 := dkwX4_init_12 ++ dktX4_init_13
def dkwX4_init_11 : List UInt8 := [188, 10, 181, 0, 101, 42, 17, 4, 0, 188, 10, 181, 0, 104, 42, 16, 12, 188, 10, 181, 0, 107, 42]
abbrev dktX4_init_11 : List UInt8 := dkwX4_init_11 ++ dktX4_init_12
def dkwX4_init_10 : List UInt8 := [188, 10, 181, 0, 92, 42, 16, 65, 188, 10, 181, 0, 95, 42, 16, 32, 188, 10, 181, 0, 98, 42, 16, 32]
abbrev dktX4_init_10 : List UInt8 := dkwX4_init_10 ++ dktX4_init_11
def dkwX4_init_9 : List UInt8 := [188, 10, 181, 0, 82, 42, 16, 32, 188, 11, 181, 0, 85, 42, 16, 32, 188, 4, 181, 0, 89, 42, 16, 65]
abbrev dktX4_init_9 : List UInt8 := dkwX4_init_9 ++ dktX4_init_10
def dkwX4_init_8 : List UInt8 := [181, 0, 73, 42, 17, 2, 128, 188, 10, 181, 0, 76, 42, 16, 32, 188, 10, 181, 0, 79, 42, 16, 65]
abbrev dktX4_init_8 : List UInt8 := dkwX4_init_8 ++ dktX4_init_9
def dkwX4_init_7 : List UInt8 := [17, 15, 160, 188, 10, 181, 0, 67, 42, 16, 32, 188, 10, 181, 0, 70, 42, 17, 2, 128, 188, 4]
abbrev dktX4_init_7 : List UInt8 := dkwX4_init_7 ++ dktX4_init_8
def dkwX4_init_6 : List UInt8 := [181, 0, 58, 42, 17, 2, 128, 188, 4, 181, 0, 61, 42, 17, 2, 128, 188, 4, 181, 0, 64, 42]
abbrev dktX4_init_6 : List UInt8 := dkwX4_init_6 ++ dktX4_init_7
def dkwX4_init_5 : List UInt8 := [42, 17, 2, 128, 188, 10, 181, 0, 52, 42, 17, 2, 128, 188, 10, 181, 0, 55, 42, 17, 2, 128, 188, 4]
abbrev dktX4_init_5 : List UInt8 := dkwX4_init_5 ++ dktX4_init_6
def dkwX4_init_4 : List UInt8 := [17, 2, 128, 188, 10, 181, 0, 40, 42, 18, 43, 188, 10, 181, 0, 44, 42, 18, 47, 188, 4, 181, 0, 48]
abbrev dktX4_init_4 : List UInt8 := dkwX4_init_4 ++ dktX4_init_5
def dkwX4_init_3 : List UInt8 := [181, 0, 31, 42, 17, 2, 128, 188, 10, 181, 0, 34, 42, 17, 2, 128, 188, 10, 181, 0, 37, 42]
abbrev dktX4_init_3 : List UInt8 := dkwX4_init_3 ++ dktX4_init_4
def dkwX4_init_2 : List UInt8 := [16, 80, 188, 10, 181, 0, 25, 42, 17, 9, 36, 188, 10, 181, 0, 28, 42, 17, 2, 128, 188, 10]
abbrev dktX4_init_2 : List UInt8 := dkwX4_init_2 ++ dktX4_init_3
def dkwX4_init_1 : List UInt8 := [17, 3, 12, 188, 10, 181, 0, 16, 42, 5, 188, 10, 181, 0, 19, 42, 16, 31, 188, 10, 181, 0, 22, 42]
abbrev dktX4_init_1 : List UInt8 := dkwX4_init_1 ++ dktX4_init_2
def dkwX4_init_0 : List UInt8 := [42, 183, 0, 3, 42, 17, 3, 12, 188, 10, 181, 0, 9, 42, 17, 24, 96, 188, 10, 181, 0, 13, 42]
abbrev dktX4_init_0 : List UInt8 := dkwX4_init_0 ++ dktX4_init_1
theorem dksX4_init_0 : cX4_init.data.toList.drop 0 = dktX4_init_0 := by decide +kernel
theorem dksX4_init_1 : cX4_init.data.toList.drop 23 = dktX4_init_1 := dk_seg dksX4_init_0 23 rfl rfl
theorem dksX4_init_2 : cX4_init.data.toList.drop 47 = dktX4_init_2 := dk_seg dksX4_init_1 24 rfl rfl
theorem dksX4_init_3 : cX4_init.data.toList.drop 69 = dktX4_init_3 := dk_seg dksX4_init_2 22 rfl rfl
theorem dksX4_init_4 : cX4_init.data.toList.drop 91 = dktX4_init_4 := dk_seg dksX4_init_3 22 rfl rfl
theorem dksX4_init_5 : cX4_init.data.toList.drop 115 = dktX4_init_5 := dk_seg dksX4_init_4 24 rfl rfl
theorem dksX4_init_6 : cX4_init.data.toList.drop 139 = dktX4_init_6 := dk_seg dksX4_init_5 24 rfl rfl
theorem dksX4_init_7 : cX4_init.data.toList.drop 161 = dktX4_init_7 := dk_seg dksX4_init_6 22 rfl rfl
theorem dksX4_init_8 : cX4_init.data.toList.drop 183 = dktX4_init_8 := dk_seg dksX4_init_7 22 rfl rfl
theorem dksX4_init_9 : cX4_init.data.toList.drop 206 = dktX4_init_9 := dk_seg dksX4_init_8 23 rfl rfl
theorem dksX4_init_10 : cX4_init.data.toList.drop 230 = dktX4_init_10 := dk_seg dksX4_init_9 24 rfl rfl
theorem dksX4_init_11 : cX4_init.data.toList.drop 254 = dktX4_init_11 := dk_seg dksX4_init_10 24 rfl rfl
theorem dksX4_init_12 : cX4_init.data.toList.drop 277 = dktX4_init_12 := dk_seg dksX4_init_11 23 rfl rfl
theorem dksX4_init_13 : cX4_init.data.toList.drop 301 = dktX4_init_13 := dk_seg dksX4_init_12 24 rfl rfl
theorem dksX4_init_14 : cX4_init.data.toList.drop 323 = dktX4_init_14 := dk_seg dksX4_init_13 22 rfl rfl
theorem dksX4_init_15 : cX4_init.data.toList.drop 346 = dktX4_init_15 := dk_seg dksX4_init_14 23 rfl rfl
theorem dksX4_init_16 : cX4_init.data.toList.drop 370 = dktX4_init_16 := dk_seg dksX4_init_15 24 rfl rfl
theorem dksX4_init_17 : cX4_init.data.toList.drop 394 = dktX4_init_17 := dk_seg dksX4_init_16 24 rfl rfl
theorem dX4_init_0 : decode cX4_init 0 = .ok (.aload_n 0, 1) := dk_42 (dk_at dksX4_init_0 0 rfl rfl)
theorem dX4_init_1 : decode cX4_init 1 = .ok (.invokespecial 3, 3) := dk_183 0 3 (dk_at dksX4_init_0 1 rfl rfl)
theorem dX4_init_4 : decode cX4_init 4 = .ok (.aload_n 0, 1) := dk_42 (dk_at dksX4_init_0 4 rfl rfl)
theorem dX4_init_5 : decode cX4_init 5 = .ok (.sipush 780, 3) := dk_17 3 12 (dk_at dksX4_init_0 5 rfl rfl)
theorem dX4_init_8 : decode cX4_init 8 = .ok (.newarray .int, 2) := dk_188_10 (dk_at dksX4_init_0 8 rfl rfl)
theorem dX4_init_10 : decode cX4_init 10 = .ok (.putfield 9, 3) := dk_181 0 9 (dk_at dksX4_init_0 10 rfl rfl)
theorem dX4_init_13 : decode cX4_init 13 = .ok (.aload_n 0, 1) := dk_42 (dk_at dksX4_init_0 13 rfl rfl)
theorem dX4_init_14 : decode cX4_init 14 = .ok (.sipush 6240, 3) := dk_17 24 96 (dk_at dksX4_init_0 14 rfl rfl)
theorem dX4_init_17 : decode cX4_init 17 = .ok (.newarray .int, 2) := dk_188_10 (dk_at dksX4_init_0 17 rfl rfl)
theorem dX4_init_19 : decode cX4_init 19 = .ok (.putfield 13, 3) := dk_181 0 13 (dk_at dksX4_init_0 19 rfl rfl)
theorem dX4_init_22 : decode cX4_init 22 = .ok (.aload_n 0, 1) := dk_42 (dk_at dksX4_init_0 22 rfl rfl)
theorem dX4_init_23 : decode cX4_init 23 = .ok (.sipush 780, 3) := dk_17 3 12 (dk_at dksX4_init_1 0 rfl rfl)
theorem dX4_init_26 : decode cX4_init 26 = .ok (.newarray .int, 2) := dk_188_10 (dk_at dksX4_init_1 3 rfl rfl)
theorem dX4_init_28 : decode cX4_init 28 = .ok (.putfield 16, 3) := dk_181 0 16 (dk_at dksX4_init_1 5 rfl rfl)
theorem dX4_init_31 : decode cX4_init 31 = .ok (.aload_n 0, 1) := dk_42 (dk_at dksX4_init_1 8 rfl rfl)
theorem dX4_init_32 : decode cX4_init 32 = .ok (.iconst 2, 1) := dk_5 (dk_at dksX4_init_1 9 rfl rfl)
theorem dX4_init_33 : decode cX4_init 33 = .ok (.newarray .int, 2) := dk_188_10 (dk_at dksX4_init_1 10 rfl rfl)
theorem dX4_init_35 : decode cX4_init 35 = .ok (.putfield 19, 3) := dk_181 0 19 (dk_at dksX4_init_1 12 rfl rfl)
theorem dX4_init_38 : decode cX4_init 38 = .ok (.aload_n 0, 1) := dk_42 (dk_at dksX4_init_1 15 rfl rfl)
theorem dX4_init_39 : decode cX4_init 39 = .ok (.bipush 31, 2) := dk_16 31 (dk_at dksX4_init_1 16 rfl rfl)
theorem dX4_init_41 : decode cX4_init 41 = .ok (.newarray .int, 2) := dk_188_10 (dk_at dksX4_init_1 18 rfl rfl)
theorem dX4_init_43 : decode cX4_init 43 = .ok (.putfield 22, 3) := dk_181 0 22 (dk_at dksX4_init_1 20 rfl rfl)
theorem dX4_init_46 : decode cX4_init 46 = .ok (.aload_n 0, 1) := dk_42 (dk_at dksX4_init_1 23 rfl rfl)
theorem dX4_init_47 : decode cX4_init 47 = .ok (.bipush 80, 2) := dk_16 80 (dk_at dksX4_init_2 0 rfl rfl)
theorem dX4_init_49 : decode cX4_init 49 = .ok (.newarray .int, 2) := dk_188_10 (dk_at dksX4_init_2 2 rfl rfl)
theorem dX4_init_51 : decode cX4_init 51 = .ok (.putfield 25, 3) := dk_181 0 25 (dk_at dksX4_init_2 4 rfl rfl)
theorem dX4_init_54 : decode cX4_init 54 = .ok (.aload_n 0, 1) := dk_42 (dk_at dksX4_init_2 7 rfl rfl)
theorem dX4_init_55 : decode cX4_init 55 = .ok (.sipush 2340, 3) := dk_17 9 36 (dk_at dksX4_init_2 8 rfl rfl)
theorem dX4_init_58 : decode cX4_init 58 = .ok (.newarray .int, 2) := dk_188_10 (dk_at dksX4_init_2 11 rfl rfl)
theorem dX4_init_60 : decode cX4_init 60 = .ok (.putfield 28, 3) := dk_181 0 28 (dk_at dksX4_init_2 13 rfl rfl)
theorem dX4_init_63 : decode cX4_init 63 = .ok (.aload_n 0, 1) := dk_42 (dk_at dksX4_init_2 16 rfl rfl)
theorem dX4_init_64 : decode cX4_init 64 = .ok (.sipush 640, 3) := dk_17 2 128 (dk_at dksX4_init_2 17 rfl rfl)
theorem dX4_init_67 : decode cX4_init 67 = .ok (.newarray .int, 2) := dk_188_10 (dk_at dksX4_init_2 20 rfl rfl)
theorem dX4_init_69 : decode cX4_init 69 = .ok (.putfield 31, 3) := dk_181 0 31 (dk_at dksX4_init_3 0 rfl rfl)
theorem dX4_init_72 : decode cX4_init 72 = .ok (.aload_n 0, 1) := dk_42 (dk_at dksX4_init_3 3 rfl rfl)
theorem dX4_init_73 : decode cX4_init 73 = .ok (.sipush 640, 3) := dk_17 2 128 (dk_at dksX4_init_3 4 rfl rfl)
theorem dX4_init_76 : decode cX4_init 76 = .ok (.newarray .int, 2) := dk_188_10 (dk_at dksX4_init_3 7 rfl rfl)
theorem dX4_init_78 : decode cX4_init 78 = .ok (.putfield 34, 3) := dk_181 0 34 (dk_at dksX4_init_3 9 rfl rfl)
theorem dX4_init_81 : decode cX4_init 81 = .ok (.aload_n 0, 1) := dk_42 (dk_at dksX4_init_3 12 rfl rfl)
theorem dX4_init_82 : decode cX4_init 82 = .ok (.sipush 640, 3) := dk_17 2 128 (dk_at dksX4_init_3 13 rfl rfl)
theorem dX4_init_85 : decode cX4_init 85 = .ok (.newarray .int, 2) := dk_188_10 (dk_at dksX4_init_3 16 rfl rfl)
theorem dX4_init_87 : decode cX4_init 87 = .ok (.putfield 37, 3) := dk_181 0 37 (dk_at dksX4_init_3 18 rfl rfl)
theorem dX4_init_90 : decode cX4_init 90 = .ok (.aload_n 0, 1) := dk_42 (dk_at dksX4_init_3 21 rfl rfl)
theorem dX4_init_91 : decode cX4_init 91 = .ok (.sipush 640, 3) := dk_17 2 128 (dk_at dksX4_init_4 0 rfl rfl)
theorem dX4_init_94 : decode cX4_init 94 = .ok (.newarray .int, 2) := dk_188_10 (dk_at dksX4_init_4 3 rfl rfl)
theorem dX4_init_96 : decode cX4_init 96 = .ok (.putfield 40, 3) := dk_181 0 40 (dk_at dksX4_init_4 5 rfl rfl)
theorem dX4_init_99 : decode cX4_init 99 = .ok (.aload_n 0, 1) := dk_42 (dk_at dksX4_init_4 8 rfl rfl)
theorem dX4_init_100 : decode cX4_init 100 = .ok (.ldc 43, 2) := dk_18 43 (dk_at dksX4_init_4 9 rfl rfl)
theorem dX4_init_102 : decode cX4_init 102 = .ok (.newarray .int, 2) := dk_188_10 (dk_at dksX4_init_4 11 rfl rfl)
theorem dX4_init_104 : decode cX4_init 104 = .ok (.putfield 44, 3) := dk_181 0 44 (dk_at dksX4_init_4 13 rfl rfl)
theorem dX4_init_107 : decode cX4_init 107 = .ok (.aload_n 0, 1) := dk_42 (dk_at dksX4_init_4 16 rfl rfl)
theorem dX4_init_108 : decode cX4_init 108 = .ok (.ldc 47, 2) := dk_18 47 (dk_at dksX4_init_4 17 rfl rfl)
theorem dX4_init_110 : decode cX4_init 110 = .ok (.newarray .boolean, 2) := dk_188_4 (dk_at dksX4_init_4 19 rfl rfl)
theorem dX4_init_112 : decode cX4_init 112 = .ok (.putfield 48, 3) := dk_181 0 48 (dk_at dksX4_init_4 21 rfl rfl)
theorem dX4_init_115 : decode cX4_init 115 = .ok (.aload_n 0, 1) := dk_42 (dk_at dksX4_init_5 0 rfl rfl)
theorem dX4_init_116 : decode cX4_init 116 = .ok (.sipush 640, 3) := dk_17 2 128 (dk_at dksX4_init_5 1 rfl rfl)
theorem dX4_init_119 : decode cX4_init 119 = .ok (.newarray .int, 2) := dk_188_10 (dk_at dksX4_init_5 4 rfl rfl)
theorem dX4_init_121 : decode cX4_init 121 = .ok (.putfield 52, 3) := dk_181 0 52 (dk_at dksX4_init_5 6 rfl rfl)
theorem dX4_init_124 : decode cX4_init 124 = .ok (.aload_n 0, 1) := dk_42 (dk_at dksX4_init_5 9 rfl rfl)
theorem dX4_init_125 : decode cX4_init 125 = .ok (.sipush 640, 3) := dk_17 2 128 (dk_at dksX4_init_5 10 rfl rfl)
theorem dX4_init_128 : decode cX4_init 128 = .ok (.newarray .int, 2) := dk_188_10 (dk_at dksX4_init_5 13 rfl rfl)
theorem dX4_init_130 : decode cX4_init 130 = .ok (.putfield 55, 3) := dk_181 0 55 (dk_at dksX4_init_5 15 rfl rfl)
theorem dX4_init_133 : decode cX4_init 133 = .ok (.aload_n 0, 1) := dk_42 (dk_at dksX4_init_5 18 rfl rfl)
theorem dX4_init_134 : decode cX4_init 134 = .ok (.sipush 640, 3) := dk_17 2 128 (dk_at dksX4_init_5 19 rfl rfl)
theorem dX4_init_137 : decode cX4_init 137 = .ok (.newarray .boolean, 2) := dk_188_4 (dk_at dksX4_init_5 22 rfl rfl)
theorem dX4_init_139 : decode cX4_init 139 = .ok (.putfield 58, 3) := dk_181 0 58 (dk_at dksX4_init_6 0 rfl rfl)
theorem dX4_init_142 : decode cX4_init 142 = .ok (.aload_n 0, 1) := dk_42 (dk_at dksX4_init_6 3 rfl rfl)
theorem dX4_init_143 : decode cX4_init 143 = .ok (.sipush 640, 3) := dk_17 2 128 (dk_at dksX4_init_6 4 rfl rfl)
theorem dX4_init_146 : decode cX4_init 146 = .ok (.newarray .boolean, 2) := dk_188_4 (dk_at dksX4_init_6 7 rfl rfl)
theorem dX4_init_148 : decode cX4_init 148 = .ok (.putfield 61, 3) := dk_181 0 61 (dk_at dksX4_init_6 9 rfl rfl)
theorem dX4_init_151 : decode cX4_init 151 = .ok (.aload_n 0, 1) := dk_42 (dk_at dksX4_init_6 12 rfl rfl)
theorem dX4_init_152 : decode cX4_init 152 = .ok (.sipush 640, 3) := dk_17 2 128 (dk_at dksX4_init_6 13 rfl rfl)
theorem dX4_init_155 : decode cX4_init 155 = .ok (.newarray .boolean, 2) := dk_188_4 (dk_at dksX4_init_6 16 rfl rfl)
theorem dX4_init_157 : decode cX4_init 157 = .ok (.putfield 64, 3) := dk_181 0 64 (dk_at dksX4_init_6 18 rfl rfl)
theorem dX4_init_160 : decode cX4_init 160 = .ok (.aload_n 0, 1) := dk_42 (dk_at dksX4_init_6 21 rfl rfl)
theorem dX4_init_161 : decode cX4_init 161 = .ok (.sipush 4000, 3) := dk_17 15 160 (dk_at dksX4_init_7 0 rfl rfl)
theorem dX4_init_164 : decode cX4_init 164 = .ok (.newarray .int, 2) := dk_188_10 (dk_at dksX4_init_7 3 rfl rfl)
theorem dX4_init_166 : decode cX4_init 166 = .ok (.putfield 67, 3) := dk_181 0 67 (dk_at dksX4_init_7 5 rfl rfl)
theorem dX4_init_169 : decode cX4_init 169 = .ok (.aload_n 0, 1) := dk_42 (dk_at dksX4_init_7 8 rfl rfl)
theorem dX4_init_170 : decode cX4_init 170 = .ok (.bipush 32, 2) := dk_16 32 (dk_at dksX4_init_7 9 rfl rfl)
theorem dX4_init_172 : decode cX4_init 172 = .ok (.newarray .int, 2) := dk_188_10 (dk_at dksX4_init_7 11 rfl rfl)
theorem dX4_init_174 : decode cX4_init 174 = .ok (.putfield 70, 3) := dk_181 0 70 (dk_at dksX4_init_7 13 rfl rfl)
theorem dX4_init_177 : decode cX4_init 177 = .ok (.aload_n 0, 1) := dk_42 (dk_at dksX4_init_7 16 rfl rfl)
theorem dX4_init_178 : decode cX4_init 178 = .ok (.sipush 640, 3) := dk_17 2 128 (dk_at dksX4_init_7 17 rfl rfl)
theorem dX4_init_181 : decode cX4_init 181 = .ok (.newarray .boolean, 2) := dk_188_4 (dk_at dksX4_init_7 20 rfl rfl)
theorem dX4_init_183 : decode cX4_init 183 = .ok (.putfield 73, 3) := dk_181 0 73 (dk_at dksX4_init_8 0 rfl rfl)
theorem dX4_init_186 : decode cX4_init 186 = .ok (.aload_n 0, 1) := dk_42 (dk_at dksX4_init_8 3 rfl rfl)
theorem dX4_init_187 : decode cX4_init 187 = .ok (.sipush 640, 3) := dk_17 2 128 (dk_at dksX4_init_8 4 rfl rfl)
theorem dX4_init_190 : decode cX4_init 190 = .ok (.newarray .int, 2) := dk_188_10 (dk_at dksX4_init_8 7 rfl rfl)
theorem dX4_init_192 : decode cX4_init 192 = .ok (.putfield 76, 3) := dk_181 0 76 (dk_at dksX4_init_8 9 rfl rfl)
theorem dX4_init_195 : decode cX4_init 195 = .ok (.aload_n 0, 1) := dk_42 (dk_at dksX4_init_8 12 rfl rfl)
theorem dX4_init_196 : decode cX4_init 196 = .ok (.bipush 32, 2) := dk_16 32 (dk_at dksX4_init_8 13 rfl rfl)
theorem dX4_init_198 : decode cX4_init 198 = .ok (.newarray .int, 2) := dk_188_10 (dk_at dksX4_init_8 15 rfl rfl)
theorem dX4_init_200 : decode cX4_init 200 = .ok (.putfield 79, 3) := dk_181 0 79 (dk_at dksX4_init_8 17 rfl rfl)
theorem dX4_init_203 : decode cX4_init 203 = .ok (.aload_n 0, 1) := dk_42 (dk_at dksX4_init_8 20 rfl rfl)
theorem dX4_init_204 : decode cX4_init 204 = .ok (.bipush 65, 2) := dk_16 65 (dk_at dksX4_init_8 21 rfl rfl)
theorem dX4_init_206 : decode cX4_init 206 = .ok (.newarray .int, 2) := dk_188_10 (dk_at dksX4_init_9 0 rfl rfl)
theorem dX4_init_208 : decode cX4_init 208 = .ok (.putfield 82, 3) := dk_181 0 82 (dk_at dksX4_init_9 2 rfl rfl)
theorem dX4_init_211 : decode cX4_init 211 = .ok (.aload_n 0, 1) := dk_42 (dk_at dksX4_init_9 5 rfl rfl)
theorem dX4_init_212 : decode cX4_init 212 = .ok (.bipush 32, 2) := dk_16 32 (dk_at dksX4_init_9 6 rfl rfl)
theorem dX4_init_214 : decode cX4_init 214 = .ok (.newarray .long, 2) := dk_188_11 (dk_at dksX4_init_9 8 rfl rfl)
theorem dX4_init_216 : decode cX4_init 216 = .ok (.putfield 85, 3) := dk_181 0 85 (dk_at dksX4_init_9 10 rfl rfl)
theorem dX4_init_219 : decode cX4_init 219 = .ok (.aload_n 0, 1) := dk_42 (dk_at dksX4_init_9 13 rfl rfl)
theorem dX4_init_220 : decode cX4_init 220 = .ok (.bipush 32, 2) := dk_16 32 (dk_at dksX4_init_9 14 rfl rfl)
theorem dX4_init_222 : decode cX4_init 222 = .ok (.newarray .boolean, 2) := dk_188_4 (dk_at dksX4_init_9 16 rfl rfl)
theorem dX4_init_224 : decode cX4_init 224 = .ok (.putfield 89, 3) := dk_181 0 89 (dk_at dksX4_init_9 18 rfl rfl)
theorem dX4_init_227 : decode cX4_init 227 = .ok (.aload_n 0, 1) := dk_42 (dk_at dksX4_init_9 21 rfl rfl)
theorem dX4_init_228 : decode cX4_init 228 = .ok (.bipush 65, 2) := dk_16 65 (dk_at dksX4_init_9 22 rfl rfl)
theorem dX4_init_230 : decode cX4_init 230 = .ok (.newarray .int, 2) := dk_188_10 (dk_at dksX4_init_10 0 rfl rfl)
theorem dX4_init_232 : decode cX4_init 232 = .ok (.putfield 92, 3) := dk_181 0 92 (dk_at dksX4_init_10 2 rfl rfl)
theorem dX4_init_235 : decode cX4_init 235 = .ok (.aload_n 0, 1) := dk_42 (dk_at dksX4_init_10 5 rfl rfl)
theorem dX4_init_236 : decode cX4_init 236 = .ok (.bipush 65, 2) := dk_16 65 (dk_at dksX4_init_10 6 rfl rfl)
theorem dX4_init_238 : decode cX4_init 238 = .ok (.newarray .int, 2) := dk_188_10 (dk_at dksX4_init_10 8 rfl rfl)
theorem dX4_init_240 : decode cX4_init 240 = .ok (.putfield 95, 3) := dk_181 0 95 (dk_at dksX4_init_10 10 rfl rfl)
theorem dX4_init_243 : decode cX4_init 243 = .ok (.aload_n 0, 1) := dk_42 (dk_at dksX4_init_10 13 rfl rfl)
theorem dX4_init_244 : decode cX4_init 244 = .ok (.bipush 32, 2) := dk_16 32 (dk_at dksX4_init_10 14 rfl rfl)
theorem dX4_init_246 : decode cX4_init 246 = .ok (.newarray .int, 2) := dk_188_10 (dk_at dksX4_init_10 16 rfl rfl)
theorem dX4_init_248 : decode cX4_init 248 = .ok (.putfield 98, 3) := dk_181 0 98 (dk_at dksX4_init_10 18 rfl rfl)
theorem dX4_init_251 : decode cX4_init 251 = .ok (.aload_n 0, 1) := dk_42 (dk_at dksX4_init_10 21 rfl rfl)
theorem dX4_init_252 : decode cX4_init 252 = .ok (.bipush 32, 2) := dk_16 32 (dk_at dksX4_init_10 22 rfl rfl)
theorem dX4_init_254 : decode cX4_init 254 = .ok (.newarray .int, 2) := dk_188_10 (dk_at dksX4_init_11 0 rfl rfl)
theorem dX4_init_256 : decode cX4_init 256 = .ok (.putfield 101, 3) := dk_181 0 101 (dk_at dksX4_init_11 2 rfl rfl)
theorem dX4_init_259 : decode cX4_init 259 = .ok (.aload_n 0, 1) := dk_42 (dk_at dksX4_init_11 5 rfl rfl)
theorem dX4_init_260 : decode cX4_init 260 = .ok (.sipush 1024, 3) := dk_17 4 0 (dk_at dksX4_init_11 6 rfl rfl)
theorem dX4_init_263 : decode cX4_init 263 = .ok (.newarray .int, 2) := dk_188_10 (dk_at dksX4_init_11 9 rfl rfl)
theorem dX4_init_265 : decode cX4_init 265 = .ok (.putfield 104, 3) := dk_181 0 104 (dk_at dksX4_init_11 11 rfl rfl)
theorem dX4_init_268 : decode cX4_init 268 = .ok (.aload_n 0, 1) := dk_42 (dk_at dksX4_init_11 14 rfl rfl)
theorem dX4_init_269 : decode cX4_init 269 = .ok (.bipush 12, 2) := dk_16 12 (dk_at dksX4_init_11 15 rfl rfl)
theorem dX4_init_271 : decode cX4_init 271 = .ok (.newarray .int, 2) := dk_188_10 (dk_at dksX4_init_11 17 rfl rfl)
theorem dX4_init_273 : decode cX4_init 273 = .ok (.putfield 107, 3) := dk_181 0 107 (dk_at dksX4_init_11 19 rfl rfl)
theorem dX4_init_276 : decode cX4_init 276 = .ok (.aload_n 0, 1) := dk_42 (dk_at dksX4_init_11 22 rfl rfl)
theorem dX4_init_277 : decode cX4_init 277 = .ok (.sipush 512, 3) := dk_17 2 0 (dk_at dksX4_init_12 0 rfl rfl)
theorem dX4_init_280 : decode cX4_init 280 = .ok (.newarray .int, 2) := dk_188_10 (dk_at dksX4_init_12 3 rfl rfl)
theorem dX4_init_282 : decode cX4_init 282 = .ok (.putfield 110, 3) := dk_181 0 110 (dk_at dksX4_init_12 5 rfl rfl)
theorem dX4_init_285 : decode cX4_init 285 = .ok (.aload_n 0, 1) := dk_42 (dk_at dksX4_init_12 8 rfl rfl)
theorem dX4_init_286 : decode cX4_init 286 = .ok (.bipush 8, 2) := dk_16 8 (dk_at dksX4_init_12 9 rfl rfl)
theorem dX4_init_288 : decode cX4_init 288 = .ok (.newarray .int, 2) := dk_188_10 (dk_at dksX4_init_12 11 rfl rfl)
theorem dX4_init_290 : decode cX4_init 290 = .ok (.putfield 113, 3) := dk_181 0 113 (dk_at dksX4_init_12 13 rfl rfl)
theorem dX4_init_293 : decode cX4_init 293 = .ok (.aload_n 0, 1) := dk_42 (dk_at dksX4_init_12 16 rfl rfl)
theorem dX4_init_294 : decode cX4_init 294 = .ok (.bipush 8, 2) := dk_16 8 (dk_at dksX4_init_12 17 rfl rfl)
theorem dX4_init_296 : decode cX4_init 296 = .ok (.newarray .boolean, 2) := dk_188_4 (dk_at dksX4_init_12 19 rfl rfl)
theorem dX4_init_298 : decode cX4_init 298 = .ok (.putfield 116, 3) := dk_181 0 116 (dk_at dksX4_init_12 21 rfl rfl)
theorem dX4_init_301 : decode cX4_init 301 = .ok (.aload_n 0, 1) := dk_42 (dk_at dksX4_init_13 0 rfl rfl)
theorem dX4_init_302 : decode cX4_init 302 = .ok (.bipush 8, 2) := dk_16 8 (dk_at dksX4_init_13 1 rfl rfl)
theorem dX4_init_304 : decode cX4_init 304 = .ok (.newarray .boolean, 2) := dk_188_4 (dk_at dksX4_init_13 3 rfl rfl)
theorem dX4_init_306 : decode cX4_init 306 = .ok (.putfield 119, 3) := dk_181 0 119 (dk_at dksX4_init_13 5 rfl rfl)
theorem dX4_init_309 : decode cX4_init 309 = .ok (.aload_n 0, 1) := dk_42 (dk_at dksX4_init_13 8 rfl rfl)
theorem dX4_init_310 : decode cX4_init 310 = .ok (.sipush 520, 3) := dk_17 2 8 (dk_at dksX4_init_13 9 rfl rfl)
theorem dX4_init_313 : decode cX4_init 313 = .ok (.newarray .int, 2) := dk_188_10 (dk_at dksX4_init_13 12 rfl rfl)
theorem dX4_init_315 : decode cX4_init 315 = .ok (.putfield 122, 3) := dk_181 0 122 (dk_at dksX4_init_13 14 rfl rfl)
theorem dX4_init_318 : decode cX4_init 318 = .ok (.aload_n 0, 1) := dk_42 (dk_at dksX4_init_13 17 rfl rfl)
theorem dX4_init_319 : decode cX4_init 319 = .ok (.bipush 16, 2) := dk_16 16 (dk_at dksX4_init_13 18 rfl rfl)
theorem dX4_init_321 : decode cX4_init 321 = .ok (.newarray .int, 2) := dk_188_10 (dk_at dksX4_init_13 20 rfl rfl)
theorem dX4_init_323 : decode cX4_init 323 = .ok (.putfield 125, 3) := dk_181 0 125 (dk_at dksX4_init_14 0 rfl rfl)
theorem dX4_init_326 : decode cX4_init 326 = .ok (.aload_n 0, 1) := dk_42 (dk_at dksX4_init_14 3 rfl rfl)
theorem dX4_init_327 : decode cX4_init 327 = .ok (.sipush 6240, 3) := dk_17 24 96 (dk_at dksX4_init_14 4 rfl rfl)
theorem dX4_init_330 : decode cX4_init 330 = .ok (.newarray .int, 2) := dk_188_10 (dk_at dksX4_init_14 7 rfl rfl)
theorem dX4_init_332 : decode cX4_init 332 = .ok (.putfield 128, 3) := dk_181 0 128 (dk_at dksX4_init_14 9 rfl rfl)
theorem dX4_init_335 : decode cX4_init 335 = .ok (.aload_n 0, 1) := dk_42 (dk_at dksX4_init_14 12 rfl rfl)
theorem dX4_init_336 : decode cX4_init 336 = .ok (.bipush 65, 2) := dk_16 65 (dk_at dksX4_init_14 13 rfl rfl)
theorem dX4_init_338 : decode cX4_init 338 = .ok (.newarray .int, 2) := dk_188_10 (dk_at dksX4_init_14 15 rfl rfl)
theorem dX4_init_340 : decode cX4_init 340 = .ok (.putfield 131, 3) := dk_181 0 131 (dk_at dksX4_init_14 17 rfl rfl)
theorem dX4_init_343 : decode cX4_init 343 = .ok (.aload_n 0, 1) := dk_42 (dk_at dksX4_init_14 20 rfl rfl)
theorem dX4_init_344 : decode cX4_init 344 = .ok (.bipush 32, 2) := dk_16 32 (dk_at dksX4_init_14 21 rfl rfl)
theorem dX4_init_346 : decode cX4_init 346 = .ok (.newarray .long, 2) := dk_188_11 (dk_at dksX4_init_15 0 rfl rfl)
theorem dX4_init_348 : decode cX4_init 348 = .ok (.putfield 134, 3) := dk_181 0 134 (dk_at dksX4_init_15 2 rfl rfl)
theorem dX4_init_351 : decode cX4_init 351 = .ok (.aload_n 0, 1) := dk_42 (dk_at dksX4_init_15 5 rfl rfl)
theorem dX4_init_352 : decode cX4_init 352 = .ok (.bipush 32, 2) := dk_16 32 (dk_at dksX4_init_15 6 rfl rfl)
theorem dX4_init_354 : decode cX4_init 354 = .ok (.newarray .long, 2) := dk_188_11 (dk_at dksX4_init_15 8 rfl rfl)
theorem dX4_init_356 : decode cX4_init 356 = .ok (.putfield 137, 3) := dk_181 0 137 (dk_at dksX4_init_15 10 rfl rfl)
theorem dX4_init_359 : decode cX4_init 359 = .ok (.aload_n 0, 1) := dk_42 (dk_at dksX4_init_15 13 rfl rfl)
theorem dX4_init_360 : decode cX4_init 360 = .ok (.bipush 32, 2) := dk_16 32 (dk_at dksX4_init_15 14 rfl rfl)
theorem dX4_init_362 : decode cX4_init 362 = .ok (.newarray .long, 2) := dk_188_11 (dk_at dksX4_init_15 16 rfl rfl)
theorem dX4_init_364 : decode cX4_init 364 = .ok (.putfield 140, 3) := dk_181 0 140 (dk_at dksX4_init_15 18 rfl rfl)
theorem dX4_init_367 : decode cX4_init 367 = .ok (.aload_n 0, 1) := dk_42 (dk_at dksX4_init_15 21 rfl rfl)
theorem dX4_init_368 : decode cX4_init 368 = .ok (.bipush 32, 2) := dk_16 32 (dk_at dksX4_init_15 22 rfl rfl)
theorem dX4_init_370 : decode cX4_init 370 = .ok (.newarray .long, 2) := dk_188_11 (dk_at dksX4_init_16 0 rfl rfl)
theorem dX4_init_372 : decode cX4_init 372 = .ok (.putfield 143, 3) := dk_181 0 143 (dk_at dksX4_init_16 2 rfl rfl)
theorem dX4_init_375 : decode cX4_init 375 = .ok (.aload_n 0, 1) := dk_42 (dk_at dksX4_init_16 5 rfl rfl)
theorem dX4_init_376 : decode cX4_init 376 = .ok (.iconst 0, 1) := dk_3 (dk_at dksX4_init_16 6 rfl rfl)
theorem dX4_init_377 : decode cX4_init 377 = .ok (.putfield 146, 3) := dk_181 0 146 (dk_at dksX4_init_16 7 rfl rfl)
theorem dX4_init_380 : decode cX4_init 380 = .ok (.iconst 0, 1) := dk_3 (dk_at dksX4_init_16 10 rfl rfl)
theorem dX4_init_381 : decode cX4_init 381 = .ok (.istore_n 1, 1) := dk_60 (dk_at dksX4_init_16 11 rfl rfl)
theorem dX4_init_382 : decode cX4_init 382 = .ok (.iload_n 1, 1) := dk_27 (dk_at dksX4_init_16 12 rfl rfl)
theorem dX4_init_383 : decode cX4_init 383 = .ok (.bipush 12, 2) := dk_16 12 (dk_at dksX4_init_16 13 rfl rfl)
theorem dX4_init_385 : decode cX4_init 385 = .ok (.if_icmp .ge 19, 3) := dk_162 0 19 (dk_at dksX4_init_16 15 rfl rfl)
theorem dX4_init_388 : decode cX4_init 388 = .ok (.aload_n 0, 1) := dk_42 (dk_at dksX4_init_16 18 rfl rfl)
theorem dX4_init_389 : decode cX4_init 389 = .ok (.getfield 9, 3) := dk_180 0 9 (dk_at dksX4_init_16 19 rfl rfl)
theorem dX4_init_392 : decode cX4_init 392 = .ok (.bipush 65, 2) := dk_16 65 (dk_at dksX4_init_16 22 rfl rfl)
theorem dX4_init_394 : decode cX4_init 394 = .ok (.iload_n 1, 1) := dk_27 (dk_at dksX4_init_17 0 rfl rfl)
theorem dX4_init_395 : decode cX4_init 395 = .ok (.imul, 1) := dk_104 (dk_at dksX4_init_17 1 rfl rfl)
theorem dX4_init_396 : decode cX4_init 396 = .ok (.iconst 1, 1) := dk_4 (dk_at dksX4_init_17 2 rfl rfl)
theorem dX4_init_397 : decode cX4_init 397 = .ok (.iastore, 1) := dk_79 (dk_at dksX4_init_17 3 rfl rfl)
theorem dX4_init_398 : decode cX4_init 398 = .ok (.iinc 1 1, 3) := dk_132 1 1 (dk_at dksX4_init_17 4 rfl rfl)
theorem dX4_init_401 : decode cX4_init 401 = .ok (.goto (-19), 3) := dk_167 255 237 (dk_at dksX4_init_17 7 rfl rfl)
theorem dX4_init_404 : decode cX4_init 404 = .ok (.aload_n 0, 1) := dk_42 (dk_at dksX4_init_17 10 rfl rfl)
theorem dX4_init_405 : decode cX4_init 405 = .ok (.invokevirtual 150, 3) := dk_182 0 150 (dk_at dksX4_init_17 11 rfl rfl)
theorem dX4_init_408 : decode cX4_init 408 = .ok (.return_, 1) := dk_177 (dk_at dksX4_init_17 14 rfl rfl)
abbrev cX4_makeUps : ByteArray := prog_18_method_46_code
def yX4_makeUps : MethodName := ⟨RX4, "makeUps", "()V"⟩
def dkwX4_makeUps_8 : List UInt8 := [167, 255, 77, 177]
abbrev dktX4_makeUps_8 : List UInt8 := dkwX4_makeUps_8 ++ []
def dkwX4_makeUps_7 : List UInt8 := [180, 0, 28, 42, 28, 116, 27, 182, 1, 23, 184, 0, 231, 132, 2, 1, 167, 255, 113, 132, 1, 1]
abbrev dktX4_makeUps_7 : List UInt8 := dkwX4_makeUps_7 ++ dktX4_makeUps_8
def dkwX4_makeUps_6 : List UInt8 := [182, 1, 30, 153, 0, 11, 29, 153, 0, 7, 4, 167, 0, 4, 3, 62, 42, 180, 0, 82, 3, 42]
abbrev dktX4_makeUps_6 : List UInt8 := dkwX4_makeUps_6 ++ dktX4_makeUps_7
def dkwX4_makeUps_5 : List UInt8 := [184, 0, 231, 42, 3, 182, 1, 26, 42, 180, 0, 82, 3, 42, 180, 0, 95, 3, 184, 0, 231, 42]
abbrev dktX4_makeUps_5 : List UInt8 := dkwX4_makeUps_5 ++ dktX4_makeUps_6
def dkwX4_makeUps_4 : List UInt8 := [182, 1, 23, 184, 0, 231, 42, 180, 0, 28, 42, 4, 28, 100, 27, 182, 1, 23, 42, 180, 0, 92, 3]
abbrev dktX4_makeUps_4 : List UInt8 := dkwX4_makeUps_4 ++ dktX4_makeUps_5
def dkwX4_makeUps_3 : List UInt8 := [180, 0, 95, 3, 184, 0, 231, 42, 182, 1, 30, 62, 42, 180, 0, 82, 3, 42, 180, 0, 28, 42, 28, 27]
abbrev dktX4_makeUps_3 : List UInt8 := dkwX4_makeUps_3 ++ dktX4_makeUps_4
def dkwX4_makeUps_2 : List UInt8 := [182, 1, 23, 42, 180, 0, 92, 3, 184, 0, 231, 42, 4, 182, 1, 26, 42, 180, 0, 82, 3, 42]
abbrev dktX4_makeUps_2 : List UInt8 := dkwX4_makeUps_2 ++ dktX4_makeUps_3
def dkwX4_makeUps_1 : List UInt8 := [182, 1, 23, 184, 0, 231, 4, 61, 28, 8, 162, 0, 144, 42, 180, 0, 28, 42, 28, 4, 100, 27]
abbrev dktX4_makeUps_1 : List UInt8 := dkwX4_makeUps_1 ++ dktX4_makeUps_2
def dkwX4_makeUps_0 : List UInt8 := [3, 60, 27, 7, 162, 0, 180, 42, 27, 182, 1, 20, 42, 180, 0, 82, 3, 42, 180, 0, 28, 42, 3, 27]
abbrev dktX4_makeUps_0 : List UInt8 := dkwX4_makeUps_0 ++ dktX4_makeUps_1
theorem dksX4_makeUps_0 : cX4_makeUps.data.toList.drop 0 = dktX4_makeUps_0 := by decide +kernel
theorem dksX4_makeUps_1 : cX4_makeUps.data.toList.drop 24 = dktX4_makeUps_1 := dk_seg dksX4_makeUps_0 24 rfl rfl
theorem dksX4_makeUps_2 : cX4_makeUps.data.toList.drop 46 = dktX4_makeUps_2 := dk_seg dksX4_makeUps_1 22 rfl rfl
theorem dksX4_makeUps_3 : cX4_makeUps.data.toList.drop 68 = dktX4_makeUps_3 := dk_seg dksX4_makeUps_2 22 rfl rfl
theorem dksX4_makeUps_4 : cX4_makeUps.data.toList.drop 92 = dktX4_makeUps_4 := dk_seg dksX4_makeUps_3 24 rfl rfl
theorem dksX4_makeUps_5 : cX4_makeUps.data.toList.drop 115 = dktX4_makeUps_5 := dk_seg dksX4_makeUps_4 23 rfl rfl
theorem dksX4_makeUps_6 : cX4_makeUps.data.toList.drop 137 = dktX4_makeUps_6 := dk_seg dksX4_makeUps_5 22 rfl rfl
theorem dksX4_makeUps_7 : cX4_makeUps.data.toList.drop 159 = dktX4_makeUps_7 := dk_seg dksX4_makeUps_6 22 rfl rfl
theorem dksX4_makeUps_8 : cX4_makeUps.data.toList.drop 181 = dktX4_makeUps_8 := dk_seg dksX4_makeUps_7 22 rfl rfl
theorem dX4_makeUps_0 : decode cX4_makeUps 0 = .ok (.iconst 0, 1) := dk_3 (dk_at dksX4_makeUps_0 0 rfl rfl)
theorem dX4_makeUps_1 : decode cX4_makeUps 1 = .ok (.istore_n 1, 1) := dk_60 (dk_at dksX4_makeUps_0 1 rfl rfl)
theorem dX4_makeUps_2 : decode cX4_makeUps 2 = .ok (.iload_n 1, 1) := dk_27 (dk_at dksX4_makeUps_0 2 rfl rfl)
theorem dX4_makeUps_3 : decode cX4_makeUps 3 = .ok (.iconst 4, 1) := dk_7 (dk_at dksX4_makeUps_0 3 rfl rfl)
theorem dX4_makeUps_4 : decode cX4_makeUps 4 = .ok (.if_icmp .ge 180, 3) := dk_162 0 180 (dk_at dksX4_makeUps_0 4 rfl rfl)
theorem dX4_makeUps_7 : decode cX4_makeUps 7 = .ok (.aload_n 0, 1) := dk_42 (dk_at dksX4_makeUps_0 7 rfl rfl)
theorem dX4_makeUps_8 : decode cX4_makeUps 8 = .ok (.iload_n 1, 1) := dk_27 (dk_at dksX4_makeUps_0 8 rfl rfl)
theorem dX4_makeUps_9 : decode cX4_makeUps 9 = .ok (.invokevirtual 276, 3) := dk_182 1 20 (dk_at dksX4_makeUps_0 9 rfl rfl)
theorem dX4_makeUps_12 : decode cX4_makeUps 12 = .ok (.aload_n 0, 1) := dk_42 (dk_at dksX4_makeUps_0 12 rfl rfl)
theorem dX4_makeUps_13 : decode cX4_makeUps 13 = .ok (.getfield 82, 3) := dk_180 0 82 (dk_at dksX4_makeUps_0 13 rfl rfl)
theorem dX4_makeUps_16 : decode cX4_makeUps 16 = .ok (.iconst 0, 1) := dk_3 (dk_at dksX4_makeUps_0 16 rfl rfl)
theorem dX4_makeUps_17 : decode cX4_makeUps 17 = .ok (.aload_n 0, 1) := dk_42 (dk_at dksX4_makeUps_0 17 rfl rfl)
theorem dX4_makeUps_18 : decode cX4_makeUps 18 = .ok (.getfield 28, 3) := dk_180 0 28 (dk_at dksX4_makeUps_0 18 rfl rfl)
theorem dX4_makeUps_21 : decode cX4_makeUps 21 = .ok (.aload_n 0, 1) := dk_42 (dk_at dksX4_makeUps_0 21 rfl rfl)
theorem dX4_makeUps_22 : decode cX4_makeUps 22 = .ok (.iconst 0, 1) := dk_3 (dk_at dksX4_makeUps_0 22 rfl rfl)
theorem dX4_makeUps_23 : decode cX4_makeUps 23 = .ok (.iload_n 1, 1) := dk_27 (dk_at dksX4_makeUps_0 23 rfl rfl)
theorem dX4_makeUps_24 : decode cX4_makeUps 24 = .ok (.invokevirtual 279, 3) := dk_182 1 23 (dk_at dksX4_makeUps_1 0 rfl rfl)
theorem dX4_makeUps_27 : decode cX4_makeUps 27 = .ok (.invokestatic 231, 3) := dk_184 0 231 (dk_at dksX4_makeUps_1 3 rfl rfl)
theorem dX4_makeUps_30 : decode cX4_makeUps 30 = .ok (.iconst 1, 1) := dk_4 (dk_at dksX4_makeUps_1 6 rfl rfl)
theorem dX4_makeUps_31 : decode cX4_makeUps 31 = .ok (.istore_n 2, 1) := dk_61 (dk_at dksX4_makeUps_1 7 rfl rfl)
theorem dX4_makeUps_32 : decode cX4_makeUps 32 = .ok (.iload_n 2, 1) := dk_28 (dk_at dksX4_makeUps_1 8 rfl rfl)
theorem dX4_makeUps_33 : decode cX4_makeUps 33 = .ok (.iconst 5, 1) := dk_8 (dk_at dksX4_makeUps_1 9 rfl rfl)
theorem dX4_makeUps_34 : decode cX4_makeUps 34 = .ok (.if_icmp .ge 144, 3) := dk_162 0 144 (dk_at dksX4_makeUps_1 10 rfl rfl)
theorem dX4_makeUps_37 : decode cX4_makeUps 37 = .ok (.aload_n 0, 1) := dk_42 (dk_at dksX4_makeUps_1 13 rfl rfl)
theorem dX4_makeUps_38 : decode cX4_makeUps 38 = .ok (.getfield 28, 3) := dk_180 0 28 (dk_at dksX4_makeUps_1 14 rfl rfl)
theorem dX4_makeUps_41 : decode cX4_makeUps 41 = .ok (.aload_n 0, 1) := dk_42 (dk_at dksX4_makeUps_1 17 rfl rfl)
theorem dX4_makeUps_42 : decode cX4_makeUps 42 = .ok (.iload_n 2, 1) := dk_28 (dk_at dksX4_makeUps_1 18 rfl rfl)
theorem dX4_makeUps_43 : decode cX4_makeUps 43 = .ok (.iconst 1, 1) := dk_4 (dk_at dksX4_makeUps_1 19 rfl rfl)
theorem dX4_makeUps_44 : decode cX4_makeUps 44 = .ok (.isub, 1) := dk_100 (dk_at dksX4_makeUps_1 20 rfl rfl)
theorem dX4_makeUps_45 : decode cX4_makeUps 45 = .ok (.iload_n 1, 1) := dk_27 (dk_at dksX4_makeUps_1 21 rfl rfl)
theorem dX4_makeUps_46 : decode cX4_makeUps 46 = .ok (.invokevirtual 279, 3) := dk_182 1 23 (dk_at dksX4_makeUps_2 0 rfl rfl)
theorem dX4_makeUps_49 : decode cX4_makeUps 49 = .ok (.aload_n 0, 1) := dk_42 (dk_at dksX4_makeUps_2 3 rfl rfl)
theorem dX4_makeUps_50 : decode cX4_makeUps 50 = .ok (.getfield 92, 3) := dk_180 0 92 (dk_at dksX4_makeUps_2 4 rfl rfl)
theorem dX4_makeUps_53 : decode cX4_makeUps 53 = .ok (.iconst 0, 1) := dk_3 (dk_at dksX4_makeUps_2 7 rfl rfl)
theorem dX4_makeUps_54 : decode cX4_makeUps 54 = .ok (.invokestatic 231, 3) := dk_184 0 231 (dk_at dksX4_makeUps_2 8 rfl rfl)
theorem dX4_makeUps_57 : decode cX4_makeUps 57 = .ok (.aload_n 0, 1) := dk_42 (dk_at dksX4_makeUps_2 11 rfl rfl)
theorem dX4_makeUps_58 : decode cX4_makeUps 58 = .ok (.iconst 1, 1) := dk_4 (dk_at dksX4_makeUps_2 12 rfl rfl)
theorem dX4_makeUps_59 : decode cX4_makeUps 59 = .ok (.invokevirtual 282, 3) := dk_182 1 26 (dk_at dksX4_makeUps_2 13 rfl rfl)
theorem dX4_makeUps_62 : decode cX4_makeUps 62 = .ok (.aload_n 0, 1) := dk_42 (dk_at dksX4_makeUps_2 16 rfl rfl)
theorem dX4_makeUps_63 : decode cX4_makeUps 63 = .ok (.getfield 82, 3) := dk_180 0 82 (dk_at dksX4_makeUps_2 17 rfl rfl)
theorem dX4_makeUps_66 : decode cX4_makeUps 66 = .ok (.iconst 0, 1) := dk_3 (dk_at dksX4_makeUps_2 20 rfl rfl)
theorem dX4_makeUps_67 : decode cX4_makeUps 67 = .ok (.aload_n 0, 1) := dk_42 (dk_at dksX4_makeUps_2 21 rfl rfl)
theorem dX4_makeUps_68 : decode cX4_makeUps 68 = .ok (.getfield 95, 3) := dk_180 0 95 (dk_at dksX4_makeUps_3 0 rfl rfl)
theorem dX4_makeUps_71 : decode cX4_makeUps 71 = .ok (.iconst 0, 1) := dk_3 (dk_at dksX4_makeUps_3 3 rfl rfl)
theorem dX4_makeUps_72 : decode cX4_makeUps 72 = .ok (.invokestatic 231, 3) := dk_184 0 231 (dk_at dksX4_makeUps_3 4 rfl rfl)
theorem dX4_makeUps_75 : decode cX4_makeUps 75 = .ok (.aload_n 0, 1) := dk_42 (dk_at dksX4_makeUps_3 7 rfl rfl)
theorem dX4_makeUps_76 : decode cX4_makeUps 76 = .ok (.invokevirtual 286, 3) := dk_182 1 30 (dk_at dksX4_makeUps_3 8 rfl rfl)
theorem dX4_makeUps_79 : decode cX4_makeUps 79 = .ok (.istore_n 3, 1) := dk_62 (dk_at dksX4_makeUps_3 11 rfl rfl)
theorem dX4_makeUps_80 : decode cX4_makeUps 80 = .ok (.aload_n 0, 1) := dk_42 (dk_at dksX4_makeUps_3 12 rfl rfl)
theorem dX4_makeUps_81 : decode cX4_makeUps 81 = .ok (.getfield 82, 3) := dk_180 0 82 (dk_at dksX4_makeUps_3 13 rfl rfl)
theorem dX4_makeUps_84 : decode cX4_makeUps 84 = .ok (.iconst 0, 1) := dk_3 (dk_at dksX4_makeUps_3 16 rfl rfl)
theorem dX4_makeUps_85 : decode cX4_makeUps 85 = .ok (.aload_n 0, 1) := dk_42 (dk_at dksX4_makeUps_3 17 rfl rfl)
theorem dX4_makeUps_86 : decode cX4_makeUps 86 = .ok (.getfield 28, 3) := dk_180 0 28 (dk_at dksX4_makeUps_3 18 rfl rfl)
theorem dX4_makeUps_89 : decode cX4_makeUps 89 = .ok (.aload_n 0, 1) := dk_42 (dk_at dksX4_makeUps_3 21 rfl rfl)
theorem dX4_makeUps_90 : decode cX4_makeUps 90 = .ok (.iload_n 2, 1) := dk_28 (dk_at dksX4_makeUps_3 22 rfl rfl)
theorem dX4_makeUps_91 : decode cX4_makeUps 91 = .ok (.iload_n 1, 1) := dk_27 (dk_at dksX4_makeUps_3 23 rfl rfl)
theorem dX4_makeUps_92 : decode cX4_makeUps 92 = .ok (.invokevirtual 279, 3) := dk_182 1 23 (dk_at dksX4_makeUps_4 0 rfl rfl)
theorem dX4_makeUps_95 : decode cX4_makeUps 95 = .ok (.invokestatic 231, 3) := dk_184 0 231 (dk_at dksX4_makeUps_4 3 rfl rfl)
theorem dX4_makeUps_98 : decode cX4_makeUps 98 = .ok (.aload_n 0, 1) := dk_42 (dk_at dksX4_makeUps_4 6 rfl rfl)
theorem dX4_makeUps_99 : decode cX4_makeUps 99 = .ok (.getfield 28, 3) := dk_180 0 28 (dk_at dksX4_makeUps_4 7 rfl rfl)
theorem dX4_makeUps_102 : decode cX4_makeUps 102 = .ok (.aload_n 0, 1) := dk_42 (dk_at dksX4_makeUps_4 10 rfl rfl)
theorem dX4_makeUps_103 : decode cX4_makeUps 103 = .ok (.iconst 1, 1) := dk_4 (dk_at dksX4_makeUps_4 11 rfl rfl)
theorem dX4_makeUps_104 : decode cX4_makeUps 104 = .ok (.iload_n 2, 1) := dk_28 (dk_at dksX4_makeUps_4 12 rfl rfl)
theorem dX4_makeUps_105 : decode cX4_makeUps 105 = .ok (.isub, 1) := dk_100 (dk_at dksX4_makeUps_4 13 rfl rfl)
theorem dX4_makeUps_106 : decode cX4_makeUps 106 = .ok (.iload_n 1, 1) := dk_27 (dk_at dksX4_makeUps_4 14 rfl rfl)
theorem dX4_makeUps_107 : decode cX4_makeUps 107 = .ok (.invokevirtual 279, 3) := dk_182 1 23 (dk_at dksX4_makeUps_4 15 rfl rfl)
theorem dX4_makeUps_110 : decode cX4_makeUps 110 = .ok (.aload_n 0, 1) := dk_42 (dk_at dksX4_makeUps_4 18 rfl rfl)
theorem dX4_makeUps_111 : decode cX4_makeUps 111 = .ok (.getfield 92, 3) := dk_180 0 92 (dk_at dksX4_makeUps_4 19 rfl rfl)
theorem dX4_makeUps_114 : decode cX4_makeUps 114 = .ok (.iconst 0, 1) := dk_3 (dk_at dksX4_makeUps_4 22 rfl rfl)
theorem dX4_makeUps_115 : decode cX4_makeUps 115 = .ok (.invokestatic 231, 3) := dk_184 0 231 (dk_at dksX4_makeUps_5 0 rfl rfl)
theorem dX4_makeUps_118 : decode cX4_makeUps 118 = .ok (.aload_n 0, 1) := dk_42 (dk_at dksX4_makeUps_5 3 rfl rfl)
theorem dX4_makeUps_119 : decode cX4_makeUps 119 = .ok (.iconst 0, 1) := dk_3 (dk_at dksX4_makeUps_5 4 rfl rfl)
theorem dX4_makeUps_120 : decode cX4_makeUps 120 = .ok (.invokevirtual 282, 3) := dk_182 1 26 (dk_at dksX4_makeUps_5 5 rfl rfl)
theorem dX4_makeUps_123 : decode cX4_makeUps 123 = .ok (.aload_n 0, 1) := dk_42 (dk_at dksX4_makeUps_5 8 rfl rfl)
theorem dX4_makeUps_124 : decode cX4_makeUps 124 = .ok (.getfield 82, 3) := dk_180 0 82 (dk_at dksX4_makeUps_5 9 rfl rfl)
theorem dX4_makeUps_127 : decode cX4_makeUps 127 = .ok (.iconst 0, 1) := dk_3 (dk_at dksX4_makeUps_5 12 rfl rfl)
theorem dX4_makeUps_128 : decode cX4_makeUps 128 = .ok (.aload_n 0, 1) := dk_42 (dk_at dksX4_makeUps_5 13 rfl rfl)
theorem dX4_makeUps_129 : decode cX4_makeUps 129 = .ok (.getfield 95, 3) := dk_180 0 95 (dk_at dksX4_makeUps_5 14 rfl rfl)
theorem dX4_makeUps_132 : decode cX4_makeUps 132 = .ok (.iconst 0, 1) := dk_3 (dk_at dksX4_makeUps_5 17 rfl rfl)
theorem dX4_makeUps_133 : decode cX4_makeUps 133 = .ok (.invokestatic 231, 3) := dk_184 0 231 (dk_at dksX4_makeUps_5 18 rfl rfl)
theorem dX4_makeUps_136 : decode cX4_makeUps 136 = .ok (.aload_n 0, 1) := dk_42 (dk_at dksX4_makeUps_5 21 rfl rfl)
theorem dX4_makeUps_137 : decode cX4_makeUps 137 = .ok (.invokevirtual 286, 3) := dk_182 1 30 (dk_at dksX4_makeUps_6 0 rfl rfl)
theorem dX4_makeUps_140 : decode cX4_makeUps 140 = .ok (.ifCond .eq 11, 3) := dk_153 0 11 (dk_at dksX4_makeUps_6 3 rfl rfl)
theorem dX4_makeUps_143 : decode cX4_makeUps 143 = .ok (.iload_n 3, 1) := dk_29 (dk_at dksX4_makeUps_6 6 rfl rfl)
theorem dX4_makeUps_144 : decode cX4_makeUps 144 = .ok (.ifCond .eq 7, 3) := dk_153 0 7 (dk_at dksX4_makeUps_6 7 rfl rfl)
theorem dX4_makeUps_147 : decode cX4_makeUps 147 = .ok (.iconst 1, 1) := dk_4 (dk_at dksX4_makeUps_6 10 rfl rfl)
theorem dX4_makeUps_148 : decode cX4_makeUps 148 = .ok (.goto 4, 3) := dk_167 0 4 (dk_at dksX4_makeUps_6 11 rfl rfl)
theorem dX4_makeUps_151 : decode cX4_makeUps 151 = .ok (.iconst 0, 1) := dk_3 (dk_at dksX4_makeUps_6 14 rfl rfl)
theorem dX4_makeUps_152 : decode cX4_makeUps 152 = .ok (.istore_n 3, 1) := dk_62 (dk_at dksX4_makeUps_6 15 rfl rfl)
theorem dX4_makeUps_153 : decode cX4_makeUps 153 = .ok (.aload_n 0, 1) := dk_42 (dk_at dksX4_makeUps_6 16 rfl rfl)
theorem dX4_makeUps_154 : decode cX4_makeUps 154 = .ok (.getfield 82, 3) := dk_180 0 82 (dk_at dksX4_makeUps_6 17 rfl rfl)
theorem dX4_makeUps_157 : decode cX4_makeUps 157 = .ok (.iconst 0, 1) := dk_3 (dk_at dksX4_makeUps_6 20 rfl rfl)
theorem dX4_makeUps_158 : decode cX4_makeUps 158 = .ok (.aload_n 0, 1) := dk_42 (dk_at dksX4_makeUps_6 21 rfl rfl)
theorem dX4_makeUps_159 : decode cX4_makeUps 159 = .ok (.getfield 28, 3) := dk_180 0 28 (dk_at dksX4_makeUps_7 0 rfl rfl)
theorem dX4_makeUps_162 : decode cX4_makeUps 162 = .ok (.aload_n 0, 1) := dk_42 (dk_at dksX4_makeUps_7 3 rfl rfl)
theorem dX4_makeUps_163 : decode cX4_makeUps 163 = .ok (.iload_n 2, 1) := dk_28 (dk_at dksX4_makeUps_7 4 rfl rfl)
theorem dX4_makeUps_164 : decode cX4_makeUps 164 = .ok (.ineg, 1) := dk_116 (dk_at dksX4_makeUps_7 5 rfl rfl)
theorem dX4_makeUps_165 : decode cX4_makeUps 165 = .ok (.iload_n 1, 1) := dk_27 (dk_at dksX4_makeUps_7 6 rfl rfl)
theorem dX4_makeUps_166 : decode cX4_makeUps 166 = .ok (.invokevirtual 279, 3) := dk_182 1 23 (dk_at dksX4_makeUps_7 7 rfl rfl)
theorem dX4_makeUps_169 : decode cX4_makeUps 169 = .ok (.invokestatic 231, 3) := dk_184 0 231 (dk_at dksX4_makeUps_7 10 rfl rfl)
theorem dX4_makeUps_172 : decode cX4_makeUps 172 = .ok (.iinc 2 1, 3) := dk_132 2 1 (dk_at dksX4_makeUps_7 13 rfl rfl)
theorem dX4_makeUps_175 : decode cX4_makeUps 175 = .ok (.goto (-143), 3) := dk_167 255 113 (dk_at dksX4_makeUps_7 16 rfl rfl)
theorem dX4_makeUps_178 : decode cX4_makeUps 178 = .ok (.iinc 1 1, 3) := dk_132 1 1 (dk_at dksX4_makeUps_7 19 rfl rfl)
theorem dX4_makeUps_181 : decode cX4_makeUps 181 = .ok (.goto (-179), 3) := dk_167 255 77 (dk_at dksX4_makeUps_8 0 rfl rfl)
theorem dX4_makeUps_184 : decode cX4_makeUps 184 = .ok (.return_, 1) := dk_177 (dk_at dksX4_makeUps_8 3 rfl rfl)
abbrev cX4_layNimber : ByteArray := prog_18_method_43_code
def yX4_layNimber : MethodName := ⟨RX4, "layNimber", "(I)V"⟩
def dkwX4_layNimber_2 : List UInt8 := [132, 2, 1, 167, 255, 218, 177]
abbrev dktX4_layNimber_2 : List UInt8 := dkwX4_layNimber_2 ++ []
def dkwX4_layNimber_1 : List UInt8 := [96, 4, 28, 120, 4, 100, 79, 42, 180, 0, 82, 5, 5, 28, 104, 96, 4, 28, 120, 4, 100, 79]
abbrev dktX4_layNimber_1 : List UInt8 := dkwX4_layNimber_1 ++ dktX4_layNimber_2
def dkwX4_layNimber_0 : List UInt8 := [42, 180, 0, 82, 3, 27, 4, 96, 79, 3, 61, 28, 27, 163, 0, 39, 42, 180, 0, 82, 4, 5, 28, 104]
abbrev dktX4_layNimber_0 : List UInt8 := dkwX4_layNimber_0 ++ dktX4_layNimber_1
theorem dksX4_layNimber_0 : cX4_layNimber.data.toList.drop 0 = dktX4_layNimber_0 := by decide +kernel
theorem dksX4_layNimber_1 : cX4_layNimber.data.toList.drop 24 = dktX4_layNimber_1 := dk_seg dksX4_layNimber_0 24 rfl rfl
theorem dksX4_layNimber_2 : cX4_layNimber.data.toList.drop 46 = dktX4_layNimber_2 := dk_seg dksX4_layNimber_1 22 rfl rfl
theorem dX4_layNimber_0 : decode cX4_layNimber 0 = .ok (.aload_n 0, 1) := dk_42 (dk_at dksX4_layNimber_0 0 rfl rfl)
theorem dX4_layNimber_1 : decode cX4_layNimber 1 = .ok (.getfield 82, 3) := dk_180 0 82 (dk_at dksX4_layNimber_0 1 rfl rfl)
theorem dX4_layNimber_4 : decode cX4_layNimber 4 = .ok (.iconst 0, 1) := dk_3 (dk_at dksX4_layNimber_0 4 rfl rfl)
theorem dX4_layNimber_5 : decode cX4_layNimber 5 = .ok (.iload_n 1, 1) := dk_27 (dk_at dksX4_layNimber_0 5 rfl rfl)
theorem dX4_layNimber_6 : decode cX4_layNimber 6 = .ok (.iconst 1, 1) := dk_4 (dk_at dksX4_layNimber_0 6 rfl rfl)
theorem dX4_layNimber_7 : decode cX4_layNimber 7 = .ok (.iadd, 1) := dk_96 (dk_at dksX4_layNimber_0 7 rfl rfl)
theorem dX4_layNimber_8 : decode cX4_layNimber 8 = .ok (.iastore, 1) := dk_79 (dk_at dksX4_layNimber_0 8 rfl rfl)
theorem dX4_layNimber_9 : decode cX4_layNimber 9 = .ok (.iconst 0, 1) := dk_3 (dk_at dksX4_layNimber_0 9 rfl rfl)
theorem dX4_layNimber_10 : decode cX4_layNimber 10 = .ok (.istore_n 2, 1) := dk_61 (dk_at dksX4_layNimber_0 10 rfl rfl)
theorem dX4_layNimber_11 : decode cX4_layNimber 11 = .ok (.iload_n 2, 1) := dk_28 (dk_at dksX4_layNimber_0 11 rfl rfl)
theorem dX4_layNimber_12 : decode cX4_layNimber 12 = .ok (.iload_n 1, 1) := dk_27 (dk_at dksX4_layNimber_0 12 rfl rfl)
theorem dX4_layNimber_13 : decode cX4_layNimber 13 = .ok (.if_icmp .gt 39, 3) := dk_163 0 39 (dk_at dksX4_layNimber_0 13 rfl rfl)
theorem dX4_layNimber_16 : decode cX4_layNimber 16 = .ok (.aload_n 0, 1) := dk_42 (dk_at dksX4_layNimber_0 16 rfl rfl)
theorem dX4_layNimber_17 : decode cX4_layNimber 17 = .ok (.getfield 82, 3) := dk_180 0 82 (dk_at dksX4_layNimber_0 17 rfl rfl)
theorem dX4_layNimber_20 : decode cX4_layNimber 20 = .ok (.iconst 1, 1) := dk_4 (dk_at dksX4_layNimber_0 20 rfl rfl)
theorem dX4_layNimber_21 : decode cX4_layNimber 21 = .ok (.iconst 2, 1) := dk_5 (dk_at dksX4_layNimber_0 21 rfl rfl)
theorem dX4_layNimber_22 : decode cX4_layNimber 22 = .ok (.iload_n 2, 1) := dk_28 (dk_at dksX4_layNimber_0 22 rfl rfl)
theorem dX4_layNimber_23 : decode cX4_layNimber 23 = .ok (.imul, 1) := dk_104 (dk_at dksX4_layNimber_0 23 rfl rfl)
theorem dX4_layNimber_24 : decode cX4_layNimber 24 = .ok (.iadd, 1) := dk_96 (dk_at dksX4_layNimber_1 0 rfl rfl)
theorem dX4_layNimber_25 : decode cX4_layNimber 25 = .ok (.iconst 1, 1) := dk_4 (dk_at dksX4_layNimber_1 1 rfl rfl)
theorem dX4_layNimber_26 : decode cX4_layNimber 26 = .ok (.iload_n 2, 1) := dk_28 (dk_at dksX4_layNimber_1 2 rfl rfl)
theorem dX4_layNimber_27 : decode cX4_layNimber 27 = .ok (.ishl, 1) := dk_120 (dk_at dksX4_layNimber_1 3 rfl rfl)
theorem dX4_layNimber_28 : decode cX4_layNimber 28 = .ok (.iconst 1, 1) := dk_4 (dk_at dksX4_layNimber_1 4 rfl rfl)
theorem dX4_layNimber_29 : decode cX4_layNimber 29 = .ok (.isub, 1) := dk_100 (dk_at dksX4_layNimber_1 5 rfl rfl)
theorem dX4_layNimber_30 : decode cX4_layNimber 30 = .ok (.iastore, 1) := dk_79 (dk_at dksX4_layNimber_1 6 rfl rfl)
theorem dX4_layNimber_31 : decode cX4_layNimber 31 = .ok (.aload_n 0, 1) := dk_42 (dk_at dksX4_layNimber_1 7 rfl rfl)
theorem dX4_layNimber_32 : decode cX4_layNimber 32 = .ok (.getfield 82, 3) := dk_180 0 82 (dk_at dksX4_layNimber_1 8 rfl rfl)
theorem dX4_layNimber_35 : decode cX4_layNimber 35 = .ok (.iconst 2, 1) := dk_5 (dk_at dksX4_layNimber_1 11 rfl rfl)
theorem dX4_layNimber_36 : decode cX4_layNimber 36 = .ok (.iconst 2, 1) := dk_5 (dk_at dksX4_layNimber_1 12 rfl rfl)
theorem dX4_layNimber_37 : decode cX4_layNimber 37 = .ok (.iload_n 2, 1) := dk_28 (dk_at dksX4_layNimber_1 13 rfl rfl)
theorem dX4_layNimber_38 : decode cX4_layNimber 38 = .ok (.imul, 1) := dk_104 (dk_at dksX4_layNimber_1 14 rfl rfl)
theorem dX4_layNimber_39 : decode cX4_layNimber 39 = .ok (.iadd, 1) := dk_96 (dk_at dksX4_layNimber_1 15 rfl rfl)
theorem dX4_layNimber_40 : decode cX4_layNimber 40 = .ok (.iconst 1, 1) := dk_4 (dk_at dksX4_layNimber_1 16 rfl rfl)
theorem dX4_layNimber_41 : decode cX4_layNimber 41 = .ok (.iload_n 2, 1) := dk_28 (dk_at dksX4_layNimber_1 17 rfl rfl)
theorem dX4_layNimber_42 : decode cX4_layNimber 42 = .ok (.ishl, 1) := dk_120 (dk_at dksX4_layNimber_1 18 rfl rfl)
theorem dX4_layNimber_43 : decode cX4_layNimber 43 = .ok (.iconst 1, 1) := dk_4 (dk_at dksX4_layNimber_1 19 rfl rfl)
theorem dX4_layNimber_44 : decode cX4_layNimber 44 = .ok (.isub, 1) := dk_100 (dk_at dksX4_layNimber_1 20 rfl rfl)
theorem dX4_layNimber_45 : decode cX4_layNimber 45 = .ok (.iastore, 1) := dk_79 (dk_at dksX4_layNimber_1 21 rfl rfl)
theorem dX4_layNimber_46 : decode cX4_layNimber 46 = .ok (.iinc 2 1, 3) := dk_132 2 1 (dk_at dksX4_layNimber_2 0 rfl rfl)
theorem dX4_layNimber_49 : decode cX4_layNimber 49 = .ok (.goto (-38), 3) := dk_167 255 218 (dk_at dksX4_layNimber_2 3 rfl rfl)
theorem dX4_layNimber_52 : decode cX4_layNimber 52 = .ok (.return_, 1) := dk_177 (dk_at dksX4_layNimber_2 6 rfl rfl)
abbrev cX4_upAt : ByteArray := prog_18_method_45_code
def yX4_upAt : MethodName := ⟨RX4, "upAt", "(II)I"⟩
def dkwX4_upAt_0 : List UInt8 := [16, 65, 7, 27, 7, 96, 104, 28, 96, 104, 172]
abbrev dktX4_upAt_0 : List UInt8 := dkwX4_upAt_0 ++ []
theorem dksX4_upAt_0 : cX4_upAt.data.toList.drop 0 = dktX4_upAt_0 := by decide +kernel
theorem dX4_upAt_0 : decode cX4_upAt 0 = .ok (.bipush 65, 2) := dk_16 65 (dk_at dksX4_upAt_0 0 rfl rfl)
theorem dX4_upAt_2 : decode cX4_upAt 2 = .ok (.iconst 4, 1) := dk_7 (dk_at dksX4_upAt_0 2 rfl rfl)
theorem dX4_upAt_3 : decode cX4_upAt 3 = .ok (.iload_n 1, 1) := dk_27 (dk_at dksX4_upAt_0 3 rfl rfl)
theorem dX4_upAt_4 : decode cX4_upAt 4 = .ok (.iconst 4, 1) := dk_7 (dk_at dksX4_upAt_0 4 rfl rfl)
theorem dX4_upAt_5 : decode cX4_upAt 5 = .ok (.iadd, 1) := dk_96 (dk_at dksX4_upAt_0 5 rfl rfl)
theorem dX4_upAt_6 : decode cX4_upAt 6 = .ok (.imul, 1) := dk_104 (dk_at dksX4_upAt_0 6 rfl rfl)
theorem dX4_upAt_7 : decode cX4_upAt 7 = .ok (.iload_n 2, 1) := dk_28 (dk_at dksX4_upAt_0 7 rfl rfl)
theorem dX4_upAt_8 : decode cX4_upAt 8 = .ok (.iadd, 1) := dk_96 (dk_at dksX4_upAt_0 8 rfl rfl)
theorem dX4_upAt_9 : decode cX4_upAt 9 = .ok (.imul, 1) := dk_104 (dk_at dksX4_upAt_0 9 rfl rfl)
theorem dX4_upAt_10 : decode cX4_upAt 10 = .ok (.ireturn, 1) := dk_172 (dk_at dksX4_upAt_0 10 rfl rfl)
abbrev cX4_copyGame : ByteArray := prog_18_method_5_code
def yX4_copyGame : MethodName := ⟨RX4, "copyGame", "([II[II)V"⟩
def dkwX4_copyGame_1 : List UInt8 := [132, 4, 1, 167, 255, 234, 177]
abbrev dktX4_copyGame_1 : List UInt8 := dkwX4_copyGame_1 ++ []
def dkwX4_copyGame_0 : List UInt8 := [3, 54, 4, 21, 4, 16, 65, 162, 0, 21, 44, 29, 21, 4, 96, 42, 27, 21, 4, 96, 46, 79]
abbrev dktX4_copyGame_0 : List UInt8 := dkwX4_copyGame_0 ++ dktX4_copyGame_1
theorem dksX4_copyGame_0 : cX4_copyGame.data.toList.drop 0 = dktX4_copyGame_0 := by decide +kernel
theorem dksX4_copyGame_1 : cX4_copyGame.data.toList.drop 22 = dktX4_copyGame_1 := dk_seg dksX4_copyGame_0 22 rfl rfl
theorem dX4_copyGame_0 : decode cX4_copyGame 0 = .ok (.iconst 0, 1) := dk_3 (dk_at dksX4_copyGame_0 0 rfl rfl)
theorem dX4_copyGame_1 : decode cX4_copyGame 1 = .ok (.istore 4, 2) := dk_54 4 (dk_at dksX4_copyGame_0 1 rfl rfl)
theorem dX4_copyGame_3 : decode cX4_copyGame 3 = .ok (.iload 4, 2) := dk_21 4 (dk_at dksX4_copyGame_0 3 rfl rfl)
theorem dX4_copyGame_5 : decode cX4_copyGame 5 = .ok (.bipush 65, 2) := dk_16 65 (dk_at dksX4_copyGame_0 5 rfl rfl)
theorem dX4_copyGame_7 : decode cX4_copyGame 7 = .ok (.if_icmp .ge 21, 3) := dk_162 0 21 (dk_at dksX4_copyGame_0 7 rfl rfl)
theorem dX4_copyGame_10 : decode cX4_copyGame 10 = .ok (.aload_n 2, 1) := dk_44 (dk_at dksX4_copyGame_0 10 rfl rfl)
theorem dX4_copyGame_11 : decode cX4_copyGame 11 = .ok (.iload_n 3, 1) := dk_29 (dk_at dksX4_copyGame_0 11 rfl rfl)
theorem dX4_copyGame_12 : decode cX4_copyGame 12 = .ok (.iload 4, 2) := dk_21 4 (dk_at dksX4_copyGame_0 12 rfl rfl)
theorem dX4_copyGame_14 : decode cX4_copyGame 14 = .ok (.iadd, 1) := dk_96 (dk_at dksX4_copyGame_0 14 rfl rfl)
theorem dX4_copyGame_15 : decode cX4_copyGame 15 = .ok (.aload_n 0, 1) := dk_42 (dk_at dksX4_copyGame_0 15 rfl rfl)
theorem dX4_copyGame_16 : decode cX4_copyGame 16 = .ok (.iload_n 1, 1) := dk_27 (dk_at dksX4_copyGame_0 16 rfl rfl)
theorem dX4_copyGame_17 : decode cX4_copyGame 17 = .ok (.iload 4, 2) := dk_21 4 (dk_at dksX4_copyGame_0 17 rfl rfl)
theorem dX4_copyGame_19 : decode cX4_copyGame 19 = .ok (.iadd, 1) := dk_96 (dk_at dksX4_copyGame_0 19 rfl rfl)
theorem dX4_copyGame_20 : decode cX4_copyGame 20 = .ok (.iaload, 1) := dk_46 (dk_at dksX4_copyGame_0 20 rfl rfl)
theorem dX4_copyGame_21 : decode cX4_copyGame 21 = .ok (.iastore, 1) := dk_79 (dk_at dksX4_copyGame_0 21 rfl rfl)
theorem dX4_copyGame_22 : decode cX4_copyGame 22 = .ok (.iinc 4 1, 3) := dk_132 4 1 (dk_at dksX4_copyGame_1 0 rfl rfl)
theorem dX4_copyGame_25 : decode cX4_copyGame 25 = .ok (.goto (-22), 3) := dk_167 255 234 (dk_at dksX4_copyGame_1 3 rfl rfl)
theorem dX4_copyGame_28 : decode cX4_copyGame 28 = .ok (.return_, 1) := dk_177 (dk_at dksX4_copyGame_1 6 rfl rfl)
abbrev cX4_layUp : ByteArray := prog_18_method_44_code
def yX4_layUp : MethodName := ⟨RX4, "layUp", "(Z)V"⟩
def dkwX4_layUp_3 : List UInt8 := [167, 0, 4, 4, 79, 177]
abbrev dktX4_layUp_3 : List UInt8 := dkwX4_layUp_3 ++ []
def dkwX4_layUp_2 : List UInt8 := [8, 27, 153, 0, 7, 4, 167, 0, 4, 5, 79, 42, 180, 0, 82, 16, 6, 27, 153, 0, 7, 5]
abbrev dktX4_layUp_2 : List UInt8 := dkwX4_layUp_2 ++ dktX4_layUp_3
def dkwX4_layUp_1 : List UInt8 := [132, 2, 1, 167, 255, 240, 42, 180, 0, 82, 6, 4, 79, 42, 180, 0, 82, 7, 4, 79, 42, 180, 0, 82]
abbrev dktX4_layUp_1 : List UInt8 := dkwX4_layUp_1 ++ dktX4_layUp_2
def dkwX4_layUp_0 : List UInt8 := [42, 180, 0, 82, 3, 6, 79, 4, 61, 28, 16, 7, 162, 0, 16, 42, 180, 0, 82, 28, 3, 79]
abbrev dktX4_layUp_0 : List UInt8 := dkwX4_layUp_0 ++ dktX4_layUp_1
theorem dksX4_layUp_0 : cX4_layUp.data.toList.drop 0 = dktX4_layUp_0 := by decide +kernel
theorem dksX4_layUp_1 : cX4_layUp.data.toList.drop 22 = dktX4_layUp_1 := dk_seg dksX4_layUp_0 22 rfl rfl
theorem dksX4_layUp_2 : cX4_layUp.data.toList.drop 46 = dktX4_layUp_2 := dk_seg dksX4_layUp_1 24 rfl rfl
theorem dksX4_layUp_3 : cX4_layUp.data.toList.drop 68 = dktX4_layUp_3 := dk_seg dksX4_layUp_2 22 rfl rfl
theorem dX4_layUp_0 : decode cX4_layUp 0 = .ok (.aload_n 0, 1) := dk_42 (dk_at dksX4_layUp_0 0 rfl rfl)
theorem dX4_layUp_1 : decode cX4_layUp 1 = .ok (.getfield 82, 3) := dk_180 0 82 (dk_at dksX4_layUp_0 1 rfl rfl)
theorem dX4_layUp_4 : decode cX4_layUp 4 = .ok (.iconst 0, 1) := dk_3 (dk_at dksX4_layUp_0 4 rfl rfl)
theorem dX4_layUp_5 : decode cX4_layUp 5 = .ok (.iconst 3, 1) := dk_6 (dk_at dksX4_layUp_0 5 rfl rfl)
theorem dX4_layUp_6 : decode cX4_layUp 6 = .ok (.iastore, 1) := dk_79 (dk_at dksX4_layUp_0 6 rfl rfl)
theorem dX4_layUp_7 : decode cX4_layUp 7 = .ok (.iconst 1, 1) := dk_4 (dk_at dksX4_layUp_0 7 rfl rfl)
theorem dX4_layUp_8 : decode cX4_layUp 8 = .ok (.istore_n 2, 1) := dk_61 (dk_at dksX4_layUp_0 8 rfl rfl)
theorem dX4_layUp_9 : decode cX4_layUp 9 = .ok (.iload_n 2, 1) := dk_28 (dk_at dksX4_layUp_0 9 rfl rfl)
theorem dX4_layUp_10 : decode cX4_layUp 10 = .ok (.bipush 7, 2) := dk_16 7 (dk_at dksX4_layUp_0 10 rfl rfl)
theorem dX4_layUp_12 : decode cX4_layUp 12 = .ok (.if_icmp .ge 16, 3) := dk_162 0 16 (dk_at dksX4_layUp_0 12 rfl rfl)
theorem dX4_layUp_15 : decode cX4_layUp 15 = .ok (.aload_n 0, 1) := dk_42 (dk_at dksX4_layUp_0 15 rfl rfl)
theorem dX4_layUp_16 : decode cX4_layUp 16 = .ok (.getfield 82, 3) := dk_180 0 82 (dk_at dksX4_layUp_0 16 rfl rfl)
theorem dX4_layUp_19 : decode cX4_layUp 19 = .ok (.iload_n 2, 1) := dk_28 (dk_at dksX4_layUp_0 19 rfl rfl)
theorem dX4_layUp_20 : decode cX4_layUp 20 = .ok (.iconst 0, 1) := dk_3 (dk_at dksX4_layUp_0 20 rfl rfl)
theorem dX4_layUp_21 : decode cX4_layUp 21 = .ok (.iastore, 1) := dk_79 (dk_at dksX4_layUp_0 21 rfl rfl)
theorem dX4_layUp_22 : decode cX4_layUp 22 = .ok (.iinc 2 1, 3) := dk_132 2 1 (dk_at dksX4_layUp_1 0 rfl rfl)
theorem dX4_layUp_25 : decode cX4_layUp 25 = .ok (.goto (-16), 3) := dk_167 255 240 (dk_at dksX4_layUp_1 3 rfl rfl)
theorem dX4_layUp_28 : decode cX4_layUp 28 = .ok (.aload_n 0, 1) := dk_42 (dk_at dksX4_layUp_1 6 rfl rfl)
theorem dX4_layUp_29 : decode cX4_layUp 29 = .ok (.getfield 82, 3) := dk_180 0 82 (dk_at dksX4_layUp_1 7 rfl rfl)
theorem dX4_layUp_32 : decode cX4_layUp 32 = .ok (.iconst 3, 1) := dk_6 (dk_at dksX4_layUp_1 10 rfl rfl)
theorem dX4_layUp_33 : decode cX4_layUp 33 = .ok (.iconst 1, 1) := dk_4 (dk_at dksX4_layUp_1 11 rfl rfl)
theorem dX4_layUp_34 : decode cX4_layUp 34 = .ok (.iastore, 1) := dk_79 (dk_at dksX4_layUp_1 12 rfl rfl)
theorem dX4_layUp_35 : decode cX4_layUp 35 = .ok (.aload_n 0, 1) := dk_42 (dk_at dksX4_layUp_1 13 rfl rfl)
theorem dX4_layUp_36 : decode cX4_layUp 36 = .ok (.getfield 82, 3) := dk_180 0 82 (dk_at dksX4_layUp_1 14 rfl rfl)
theorem dX4_layUp_39 : decode cX4_layUp 39 = .ok (.iconst 4, 1) := dk_7 (dk_at dksX4_layUp_1 17 rfl rfl)
theorem dX4_layUp_40 : decode cX4_layUp 40 = .ok (.iconst 1, 1) := dk_4 (dk_at dksX4_layUp_1 18 rfl rfl)
theorem dX4_layUp_41 : decode cX4_layUp 41 = .ok (.iastore, 1) := dk_79 (dk_at dksX4_layUp_1 19 rfl rfl)
theorem dX4_layUp_42 : decode cX4_layUp 42 = .ok (.aload_n 0, 1) := dk_42 (dk_at dksX4_layUp_1 20 rfl rfl)
theorem dX4_layUp_43 : decode cX4_layUp 43 = .ok (.getfield 82, 3) := dk_180 0 82 (dk_at dksX4_layUp_1 21 rfl rfl)
theorem dX4_layUp_46 : decode cX4_layUp 46 = .ok (.iconst 5, 1) := dk_8 (dk_at dksX4_layUp_2 0 rfl rfl)
theorem dX4_layUp_47 : decode cX4_layUp 47 = .ok (.iload_n 1, 1) := dk_27 (dk_at dksX4_layUp_2 1 rfl rfl)
theorem dX4_layUp_48 : decode cX4_layUp 48 = .ok (.ifCond .eq 7, 3) := dk_153 0 7 (dk_at dksX4_layUp_2 2 rfl rfl)
theorem dX4_layUp_51 : decode cX4_layUp 51 = .ok (.iconst 1, 1) := dk_4 (dk_at dksX4_layUp_2 5 rfl rfl)
theorem dX4_layUp_52 : decode cX4_layUp 52 = .ok (.goto 4, 3) := dk_167 0 4 (dk_at dksX4_layUp_2 6 rfl rfl)
theorem dX4_layUp_55 : decode cX4_layUp 55 = .ok (.iconst 2, 1) := dk_5 (dk_at dksX4_layUp_2 9 rfl rfl)
theorem dX4_layUp_56 : decode cX4_layUp 56 = .ok (.iastore, 1) := dk_79 (dk_at dksX4_layUp_2 10 rfl rfl)
theorem dX4_layUp_57 : decode cX4_layUp 57 = .ok (.aload_n 0, 1) := dk_42 (dk_at dksX4_layUp_2 11 rfl rfl)
theorem dX4_layUp_58 : decode cX4_layUp 58 = .ok (.getfield 82, 3) := dk_180 0 82 (dk_at dksX4_layUp_2 12 rfl rfl)
theorem dX4_layUp_61 : decode cX4_layUp 61 = .ok (.bipush 6, 2) := dk_16 6 (dk_at dksX4_layUp_2 15 rfl rfl)
theorem dX4_layUp_63 : decode cX4_layUp 63 = .ok (.iload_n 1, 1) := dk_27 (dk_at dksX4_layUp_2 17 rfl rfl)
theorem dX4_layUp_64 : decode cX4_layUp 64 = .ok (.ifCond .eq 7, 3) := dk_153 0 7 (dk_at dksX4_layUp_2 18 rfl rfl)
theorem dX4_layUp_67 : decode cX4_layUp 67 = .ok (.iconst 2, 1) := dk_5 (dk_at dksX4_layUp_2 21 rfl rfl)
theorem dX4_layUp_68 : decode cX4_layUp 68 = .ok (.goto 4, 3) := dk_167 0 4 (dk_at dksX4_layUp_3 0 rfl rfl)
theorem dX4_layUp_71 : decode cX4_layUp 71 = .ok (.iconst 1, 1) := dk_4 (dk_at dksX4_layUp_3 3 rfl rfl)
theorem dX4_layUp_72 : decode cX4_layUp 72 = .ok (.iastore, 1) := dk_79 (dk_at dksX4_layUp_3 4 rfl rfl)
theorem dX4_layUp_73 : decode cX4_layUp 73 = .ok (.return_, 1) := dk_177 (dk_at dksX4_layUp_3 5 rfl rfl)
abbrev cX4_sum : ByteArray := prog_18_method_39_code
def yX4_sum : MethodName := ⟨RX4, "sum", "()Z"⟩
def dkwX4_sum_3 : List UInt8 := [96, 27, 79, 132, 3, 1, 167, 255, 202, 132, 2, 1, 167, 255, 184, 42, 27, 182, 1, 14, 172]
abbrev dktX4_sum_3 : List UInt8 := dkwX4_sum_3 ++ []
def dkwX4_sum_2 : List UInt8 := [182, 1, 7, 42, 28, 29, 3, 182, 1, 7, 42, 182, 1, 11, 60, 42, 180, 0, 104, 16, 32, 28, 104, 29]
abbrev dktX4_sum_2 : List UInt8 := dkwX4_sum_2 ++ dktX4_sum_3
def dkwX4_sum_1 : List UInt8 := [180, 0, 95, 3, 46, 162, 0, 50, 42, 3, 181, 0, 166, 42, 3, 181, 0, 169, 42, 28, 29, 4]
abbrev dktX4_sum_1 : List UInt8 := dkwX4_sum_1 ++ dktX4_sum_2
def dkwX4_sum_0 : List UInt8 := [42, 182, 1, 4, 3, 60, 3, 61, 28, 42, 180, 0, 92, 3, 46, 162, 0, 68, 3, 62, 29, 42]
abbrev dktX4_sum_0 : List UInt8 := dkwX4_sum_0 ++ dktX4_sum_1
theorem dksX4_sum_0 : cX4_sum.data.toList.drop 0 = dktX4_sum_0 := by decide +kernel
theorem dksX4_sum_1 : cX4_sum.data.toList.drop 22 = dktX4_sum_1 := dk_seg dksX4_sum_0 22 rfl rfl
theorem dksX4_sum_2 : cX4_sum.data.toList.drop 44 = dktX4_sum_2 := dk_seg dksX4_sum_1 22 rfl rfl
theorem dksX4_sum_3 : cX4_sum.data.toList.drop 68 = dktX4_sum_3 := dk_seg dksX4_sum_2 24 rfl rfl
theorem dX4_sum_0 : decode cX4_sum 0 = .ok (.aload_n 0, 1) := dk_42 (dk_at dksX4_sum_0 0 rfl rfl)
theorem dX4_sum_1 : decode cX4_sum 1 = .ok (.invokevirtual 260, 3) := dk_182 1 4 (dk_at dksX4_sum_0 1 rfl rfl)
theorem dX4_sum_4 : decode cX4_sum 4 = .ok (.iconst 0, 1) := dk_3 (dk_at dksX4_sum_0 4 rfl rfl)
theorem dX4_sum_5 : decode cX4_sum 5 = .ok (.istore_n 1, 1) := dk_60 (dk_at dksX4_sum_0 5 rfl rfl)
theorem dX4_sum_6 : decode cX4_sum 6 = .ok (.iconst 0, 1) := dk_3 (dk_at dksX4_sum_0 6 rfl rfl)
theorem dX4_sum_7 : decode cX4_sum 7 = .ok (.istore_n 2, 1) := dk_61 (dk_at dksX4_sum_0 7 rfl rfl)
theorem dX4_sum_8 : decode cX4_sum 8 = .ok (.iload_n 2, 1) := dk_28 (dk_at dksX4_sum_0 8 rfl rfl)
theorem dX4_sum_9 : decode cX4_sum 9 = .ok (.aload_n 0, 1) := dk_42 (dk_at dksX4_sum_0 9 rfl rfl)
theorem dX4_sum_10 : decode cX4_sum 10 = .ok (.getfield 92, 3) := dk_180 0 92 (dk_at dksX4_sum_0 10 rfl rfl)
theorem dX4_sum_13 : decode cX4_sum 13 = .ok (.iconst 0, 1) := dk_3 (dk_at dksX4_sum_0 13 rfl rfl)
theorem dX4_sum_14 : decode cX4_sum 14 = .ok (.iaload, 1) := dk_46 (dk_at dksX4_sum_0 14 rfl rfl)
theorem dX4_sum_15 : decode cX4_sum 15 = .ok (.if_icmp .ge 68, 3) := dk_162 0 68 (dk_at dksX4_sum_0 15 rfl rfl)
theorem dX4_sum_18 : decode cX4_sum 18 = .ok (.iconst 0, 1) := dk_3 (dk_at dksX4_sum_0 18 rfl rfl)
theorem dX4_sum_19 : decode cX4_sum 19 = .ok (.istore_n 3, 1) := dk_62 (dk_at dksX4_sum_0 19 rfl rfl)
theorem dX4_sum_20 : decode cX4_sum 20 = .ok (.iload_n 3, 1) := dk_29 (dk_at dksX4_sum_0 20 rfl rfl)
theorem dX4_sum_21 : decode cX4_sum 21 = .ok (.aload_n 0, 1) := dk_42 (dk_at dksX4_sum_0 21 rfl rfl)
theorem dX4_sum_22 : decode cX4_sum 22 = .ok (.getfield 95, 3) := dk_180 0 95 (dk_at dksX4_sum_1 0 rfl rfl)
theorem dX4_sum_25 : decode cX4_sum 25 = .ok (.iconst 0, 1) := dk_3 (dk_at dksX4_sum_1 3 rfl rfl)
theorem dX4_sum_26 : decode cX4_sum 26 = .ok (.iaload, 1) := dk_46 (dk_at dksX4_sum_1 4 rfl rfl)
theorem dX4_sum_27 : decode cX4_sum 27 = .ok (.if_icmp .ge 50, 3) := dk_162 0 50 (dk_at dksX4_sum_1 5 rfl rfl)
theorem dX4_sum_30 : decode cX4_sum 30 = .ok (.aload_n 0, 1) := dk_42 (dk_at dksX4_sum_1 8 rfl rfl)
theorem dX4_sum_31 : decode cX4_sum 31 = .ok (.iconst 0, 1) := dk_3 (dk_at dksX4_sum_1 9 rfl rfl)
theorem dX4_sum_32 : decode cX4_sum 32 = .ok (.putfield 166, 3) := dk_181 0 166 (dk_at dksX4_sum_1 10 rfl rfl)
theorem dX4_sum_35 : decode cX4_sum 35 = .ok (.aload_n 0, 1) := dk_42 (dk_at dksX4_sum_1 13 rfl rfl)
theorem dX4_sum_36 : decode cX4_sum 36 = .ok (.iconst 0, 1) := dk_3 (dk_at dksX4_sum_1 14 rfl rfl)
theorem dX4_sum_37 : decode cX4_sum 37 = .ok (.putfield 169, 3) := dk_181 0 169 (dk_at dksX4_sum_1 15 rfl rfl)
theorem dX4_sum_40 : decode cX4_sum 40 = .ok (.aload_n 0, 1) := dk_42 (dk_at dksX4_sum_1 18 rfl rfl)
theorem dX4_sum_41 : decode cX4_sum 41 = .ok (.iload_n 2, 1) := dk_28 (dk_at dksX4_sum_1 19 rfl rfl)
theorem dX4_sum_42 : decode cX4_sum 42 = .ok (.iload_n 3, 1) := dk_29 (dk_at dksX4_sum_1 20 rfl rfl)
theorem dX4_sum_43 : decode cX4_sum 43 = .ok (.iconst 1, 1) := dk_4 (dk_at dksX4_sum_1 21 rfl rfl)
theorem dX4_sum_44 : decode cX4_sum 44 = .ok (.invokevirtual 263, 3) := dk_182 1 7 (dk_at dksX4_sum_2 0 rfl rfl)
theorem dX4_sum_47 : decode cX4_sum 47 = .ok (.aload_n 0, 1) := dk_42 (dk_at dksX4_sum_2 3 rfl rfl)
theorem dX4_sum_48 : decode cX4_sum 48 = .ok (.iload_n 2, 1) := dk_28 (dk_at dksX4_sum_2 4 rfl rfl)
theorem dX4_sum_49 : decode cX4_sum 49 = .ok (.iload_n 3, 1) := dk_29 (dk_at dksX4_sum_2 5 rfl rfl)
theorem dX4_sum_50 : decode cX4_sum 50 = .ok (.iconst 0, 1) := dk_3 (dk_at dksX4_sum_2 6 rfl rfl)
theorem dX4_sum_51 : decode cX4_sum 51 = .ok (.invokevirtual 263, 3) := dk_182 1 7 (dk_at dksX4_sum_2 7 rfl rfl)
theorem dX4_sum_54 : decode cX4_sum 54 = .ok (.aload_n 0, 1) := dk_42 (dk_at dksX4_sum_2 10 rfl rfl)
theorem dX4_sum_55 : decode cX4_sum 55 = .ok (.invokevirtual 267, 3) := dk_182 1 11 (dk_at dksX4_sum_2 11 rfl rfl)
theorem dX4_sum_58 : decode cX4_sum 58 = .ok (.istore_n 1, 1) := dk_60 (dk_at dksX4_sum_2 14 rfl rfl)
theorem dX4_sum_59 : decode cX4_sum 59 = .ok (.aload_n 0, 1) := dk_42 (dk_at dksX4_sum_2 15 rfl rfl)
theorem dX4_sum_60 : decode cX4_sum 60 = .ok (.getfield 104, 3) := dk_180 0 104 (dk_at dksX4_sum_2 16 rfl rfl)
theorem dX4_sum_63 : decode cX4_sum 63 = .ok (.bipush 32, 2) := dk_16 32 (dk_at dksX4_sum_2 19 rfl rfl)
theorem dX4_sum_65 : decode cX4_sum 65 = .ok (.iload_n 2, 1) := dk_28 (dk_at dksX4_sum_2 21 rfl rfl)
theorem dX4_sum_66 : decode cX4_sum 66 = .ok (.imul, 1) := dk_104 (dk_at dksX4_sum_2 22 rfl rfl)
theorem dX4_sum_67 : decode cX4_sum 67 = .ok (.iload_n 3, 1) := dk_29 (dk_at dksX4_sum_2 23 rfl rfl)
theorem dX4_sum_68 : decode cX4_sum 68 = .ok (.iadd, 1) := dk_96 (dk_at dksX4_sum_3 0 rfl rfl)
theorem dX4_sum_69 : decode cX4_sum 69 = .ok (.iload_n 1, 1) := dk_27 (dk_at dksX4_sum_3 1 rfl rfl)
theorem dX4_sum_70 : decode cX4_sum 70 = .ok (.iastore, 1) := dk_79 (dk_at dksX4_sum_3 2 rfl rfl)
theorem dX4_sum_71 : decode cX4_sum 71 = .ok (.iinc 3 1, 3) := dk_132 3 1 (dk_at dksX4_sum_3 3 rfl rfl)
theorem dX4_sum_74 : decode cX4_sum 74 = .ok (.goto (-54), 3) := dk_167 255 202 (dk_at dksX4_sum_3 6 rfl rfl)
theorem dX4_sum_77 : decode cX4_sum 77 = .ok (.iinc 2 1, 3) := dk_132 2 1 (dk_at dksX4_sum_3 9 rfl rfl)
theorem dX4_sum_80 : decode cX4_sum 80 = .ok (.goto (-72), 3) := dk_167 255 184 (dk_at dksX4_sum_3 12 rfl rfl)
theorem dX4_sum_83 : decode cX4_sum 83 = .ok (.aload_n 0, 1) := dk_42 (dk_at dksX4_sum_3 15 rfl rfl)
theorem dX4_sum_84 : decode cX4_sum 84 = .ok (.iload_n 1, 1) := dk_27 (dk_at dksX4_sum_3 16 rfl rfl)
theorem dX4_sum_85 : decode cX4_sum 85 = .ok (.invokevirtual 270, 3) := dk_182 1 14 (dk_at dksX4_sum_3 17 rfl rfl)
theorem dX4_sum_88 : decode cX4_sum 88 = .ok (.ireturn, 1) := dk_172 (dk_at dksX4_sum_3 20 rfl rfl)
abbrev cX4_reset : ByteArray := prog_18_method_8_code
def yX4_reset : MethodName := ⟨RX4, "reset", "()V"⟩
def dkwX4_reset_0 : List UInt8 := [42, 3, 181, 0, 160, 42, 3, 181, 0, 163, 177]
abbrev dktX4_reset_0 : List UInt8 := dkwX4_reset_0 ++ []
theorem dksX4_reset_0 : cX4_reset.data.toList.drop 0 = dktX4_reset_0 := by decide +kernel
theorem dX4_reset_0 : decode cX4_reset 0 = .ok (.aload_n 0, 1) := dk_42 (dk_at dksX4_reset_0 0 rfl rfl)
theorem dX4_reset_1 : decode cX4_reset 1 = .ok (.iconst 0, 1) := dk_3 (dk_at dksX4_reset_0 1 rfl rfl)
theorem dX4_reset_2 : decode cX4_reset 2 = .ok (.putfield 160, 3) := dk_181 0 160 (dk_at dksX4_reset_0 2 rfl rfl)
theorem dX4_reset_5 : decode cX4_reset 5 = .ok (.aload_n 0, 1) := dk_42 (dk_at dksX4_reset_0 5 rfl rfl)
theorem dX4_reset_6 : decode cX4_reset 6 = .ok (.iconst 0, 1) := dk_3 (dk_at dksX4_reset_0 6 rfl rfl)
theorem dX4_reset_7 : decode cX4_reset 7 = .ok (.putfield 163, 3) := dk_181 0 163 (dk_at dksX4_reset_0 7 rfl rfl)
theorem dX4_reset_10 : decode cX4_reset 10 = .ok (.return_, 1) := dk_177 (dk_at dksX4_reset_0 10 rfl rfl)
abbrev cX4_addOptions : ByteArray := prog_18_method_38_code
def yX4_addOptions : MethodName := ⟨RX4, "addOptions", "(IIZ)V"⟩
def dkwX4_addOptions_5 : List UInt8 := [21, 6, 96, 46, 29, 182, 1, 0, 132, 6, 1, 167, 255, 219, 177]
abbrev dktX4_addOptions_5 : List UInt8 := dkwX4_addOptions_5 ++ []
def dkwX4_addOptions_4 : List UInt8 := [162, 0, 37, 21, 5, 21, 6, 122, 4, 126, 4, 160, 0, 20, 42, 42, 180, 0, 104, 16, 32, 27, 104]
abbrev dktX4_addOptions_4 : List UInt8 := dkwX4_addOptions_4 ++ dktX4_addOptions_5
def dkwX4_addOptions_3 : List UInt8 := [21, 6, 104, 28, 96, 46, 29, 182, 1, 0, 132, 6, 1, 167, 255, 219, 3, 54, 6, 21, 6, 28]
abbrev dktX4_addOptions_3 : List UInt8 := dkwX4_addOptions_3 ++ dktX4_addOptions_4
def dkwX4_addOptions_2 : List UInt8 := [21, 6, 27, 162, 0, 37, 21, 4, 21, 6, 122, 4, 126, 4, 160, 0, 20, 42, 42, 180, 0, 104, 16, 32]
abbrev dktX4_addOptions_2 : List UInt8 := dkwX4_addOptions_2 ++ dktX4_addOptions_3
def dkwX4_addOptions_1 : List UInt8 := [180, 0, 95, 4, 5, 28, 104, 96, 29, 153, 0, 7, 3, 167, 0, 4, 4, 96, 46, 54, 5, 3, 54, 6]
abbrev dktX4_addOptions_1 : List UInt8 := dkwX4_addOptions_1 ++ dktX4_addOptions_2
def dkwX4_addOptions_0 : List UInt8 := [42, 180, 0, 92, 4, 5, 27, 104, 96, 29, 153, 0, 7, 3, 167, 0, 4, 4, 96, 46, 54, 4, 42]
abbrev dktX4_addOptions_0 : List UInt8 := dkwX4_addOptions_0 ++ dktX4_addOptions_1
theorem dksX4_addOptions_0 : cX4_addOptions.data.toList.drop 0 = dktX4_addOptions_0 := by decide +kernel
theorem dksX4_addOptions_1 : cX4_addOptions.data.toList.drop 23 = dktX4_addOptions_1 := dk_seg dksX4_addOptions_0 23 rfl rfl
theorem dksX4_addOptions_2 : cX4_addOptions.data.toList.drop 47 = dktX4_addOptions_2 := dk_seg dksX4_addOptions_1 24 rfl rfl
theorem dksX4_addOptions_3 : cX4_addOptions.data.toList.drop 71 = dktX4_addOptions_3 := dk_seg dksX4_addOptions_2 24 rfl rfl
theorem dksX4_addOptions_4 : cX4_addOptions.data.toList.drop 93 = dktX4_addOptions_4 := dk_seg dksX4_addOptions_3 22 rfl rfl
theorem dksX4_addOptions_5 : cX4_addOptions.data.toList.drop 116 = dktX4_addOptions_5 := dk_seg dksX4_addOptions_4 23 rfl rfl
theorem dX4_addOptions_0 : decode cX4_addOptions 0 = .ok (.aload_n 0, 1) := dk_42 (dk_at dksX4_addOptions_0 0 rfl rfl)
theorem dX4_addOptions_1 : decode cX4_addOptions 1 = .ok (.getfield 92, 3) := dk_180 0 92 (dk_at dksX4_addOptions_0 1 rfl rfl)
theorem dX4_addOptions_4 : decode cX4_addOptions 4 = .ok (.iconst 1, 1) := dk_4 (dk_at dksX4_addOptions_0 4 rfl rfl)
theorem dX4_addOptions_5 : decode cX4_addOptions 5 = .ok (.iconst 2, 1) := dk_5 (dk_at dksX4_addOptions_0 5 rfl rfl)
theorem dX4_addOptions_6 : decode cX4_addOptions 6 = .ok (.iload_n 1, 1) := dk_27 (dk_at dksX4_addOptions_0 6 rfl rfl)
theorem dX4_addOptions_7 : decode cX4_addOptions 7 = .ok (.imul, 1) := dk_104 (dk_at dksX4_addOptions_0 7 rfl rfl)
theorem dX4_addOptions_8 : decode cX4_addOptions 8 = .ok (.iadd, 1) := dk_96 (dk_at dksX4_addOptions_0 8 rfl rfl)
theorem dX4_addOptions_9 : decode cX4_addOptions 9 = .ok (.iload_n 3, 1) := dk_29 (dk_at dksX4_addOptions_0 9 rfl rfl)
theorem dX4_addOptions_10 : decode cX4_addOptions 10 = .ok (.ifCond .eq 7, 3) := dk_153 0 7 (dk_at dksX4_addOptions_0 10 rfl rfl)
theorem dX4_addOptions_13 : decode cX4_addOptions 13 = .ok (.iconst 0, 1) := dk_3 (dk_at dksX4_addOptions_0 13 rfl rfl)
theorem dX4_addOptions_14 : decode cX4_addOptions 14 = .ok (.goto 4, 3) := dk_167 0 4 (dk_at dksX4_addOptions_0 14 rfl rfl)
theorem dX4_addOptions_17 : decode cX4_addOptions 17 = .ok (.iconst 1, 1) := dk_4 (dk_at dksX4_addOptions_0 17 rfl rfl)
theorem dX4_addOptions_18 : decode cX4_addOptions 18 = .ok (.iadd, 1) := dk_96 (dk_at dksX4_addOptions_0 18 rfl rfl)
theorem dX4_addOptions_19 : decode cX4_addOptions 19 = .ok (.iaload, 1) := dk_46 (dk_at dksX4_addOptions_0 19 rfl rfl)
theorem dX4_addOptions_20 : decode cX4_addOptions 20 = .ok (.istore 4, 2) := dk_54 4 (dk_at dksX4_addOptions_0 20 rfl rfl)
theorem dX4_addOptions_22 : decode cX4_addOptions 22 = .ok (.aload_n 0, 1) := dk_42 (dk_at dksX4_addOptions_0 22 rfl rfl)
theorem dX4_addOptions_23 : decode cX4_addOptions 23 = .ok (.getfield 95, 3) := dk_180 0 95 (dk_at dksX4_addOptions_1 0 rfl rfl)
theorem dX4_addOptions_26 : decode cX4_addOptions 26 = .ok (.iconst 1, 1) := dk_4 (dk_at dksX4_addOptions_1 3 rfl rfl)
theorem dX4_addOptions_27 : decode cX4_addOptions 27 = .ok (.iconst 2, 1) := dk_5 (dk_at dksX4_addOptions_1 4 rfl rfl)
theorem dX4_addOptions_28 : decode cX4_addOptions 28 = .ok (.iload_n 2, 1) := dk_28 (dk_at dksX4_addOptions_1 5 rfl rfl)
theorem dX4_addOptions_29 : decode cX4_addOptions 29 = .ok (.imul, 1) := dk_104 (dk_at dksX4_addOptions_1 6 rfl rfl)
theorem dX4_addOptions_30 : decode cX4_addOptions 30 = .ok (.iadd, 1) := dk_96 (dk_at dksX4_addOptions_1 7 rfl rfl)
theorem dX4_addOptions_31 : decode cX4_addOptions 31 = .ok (.iload_n 3, 1) := dk_29 (dk_at dksX4_addOptions_1 8 rfl rfl)
theorem dX4_addOptions_32 : decode cX4_addOptions 32 = .ok (.ifCond .eq 7, 3) := dk_153 0 7 (dk_at dksX4_addOptions_1 9 rfl rfl)
theorem dX4_addOptions_35 : decode cX4_addOptions 35 = .ok (.iconst 0, 1) := dk_3 (dk_at dksX4_addOptions_1 12 rfl rfl)
theorem dX4_addOptions_36 : decode cX4_addOptions 36 = .ok (.goto 4, 3) := dk_167 0 4 (dk_at dksX4_addOptions_1 13 rfl rfl)
theorem dX4_addOptions_39 : decode cX4_addOptions 39 = .ok (.iconst 1, 1) := dk_4 (dk_at dksX4_addOptions_1 16 rfl rfl)
theorem dX4_addOptions_40 : decode cX4_addOptions 40 = .ok (.iadd, 1) := dk_96 (dk_at dksX4_addOptions_1 17 rfl rfl)
theorem dX4_addOptions_41 : decode cX4_addOptions 41 = .ok (.iaload, 1) := dk_46 (dk_at dksX4_addOptions_1 18 rfl rfl)
theorem dX4_addOptions_42 : decode cX4_addOptions 42 = .ok (.istore 5, 2) := dk_54 5 (dk_at dksX4_addOptions_1 19 rfl rfl)
theorem dX4_addOptions_44 : decode cX4_addOptions 44 = .ok (.iconst 0, 1) := dk_3 (dk_at dksX4_addOptions_1 21 rfl rfl)
theorem dX4_addOptions_45 : decode cX4_addOptions 45 = .ok (.istore 6, 2) := dk_54 6 (dk_at dksX4_addOptions_1 22 rfl rfl)
theorem dX4_addOptions_47 : decode cX4_addOptions 47 = .ok (.iload 6, 2) := dk_21 6 (dk_at dksX4_addOptions_2 0 rfl rfl)
theorem dX4_addOptions_49 : decode cX4_addOptions 49 = .ok (.iload_n 1, 1) := dk_27 (dk_at dksX4_addOptions_2 2 rfl rfl)
theorem dX4_addOptions_50 : decode cX4_addOptions 50 = .ok (.if_icmp .ge 37, 3) := dk_162 0 37 (dk_at dksX4_addOptions_2 3 rfl rfl)
theorem dX4_addOptions_53 : decode cX4_addOptions 53 = .ok (.iload 4, 2) := dk_21 4 (dk_at dksX4_addOptions_2 6 rfl rfl)
theorem dX4_addOptions_55 : decode cX4_addOptions 55 = .ok (.iload 6, 2) := dk_21 6 (dk_at dksX4_addOptions_2 8 rfl rfl)
theorem dX4_addOptions_57 : decode cX4_addOptions 57 = .ok (.ishr, 1) := dk_122 (dk_at dksX4_addOptions_2 10 rfl rfl)
theorem dX4_addOptions_58 : decode cX4_addOptions 58 = .ok (.iconst 1, 1) := dk_4 (dk_at dksX4_addOptions_2 11 rfl rfl)
theorem dX4_addOptions_59 : decode cX4_addOptions 59 = .ok (.iand, 1) := dk_126 (dk_at dksX4_addOptions_2 12 rfl rfl)
theorem dX4_addOptions_60 : decode cX4_addOptions 60 = .ok (.iconst 1, 1) := dk_4 (dk_at dksX4_addOptions_2 13 rfl rfl)
theorem dX4_addOptions_61 : decode cX4_addOptions 61 = .ok (.if_icmp .ne 20, 3) := dk_160 0 20 (dk_at dksX4_addOptions_2 14 rfl rfl)
theorem dX4_addOptions_64 : decode cX4_addOptions 64 = .ok (.aload_n 0, 1) := dk_42 (dk_at dksX4_addOptions_2 17 rfl rfl)
theorem dX4_addOptions_65 : decode cX4_addOptions 65 = .ok (.aload_n 0, 1) := dk_42 (dk_at dksX4_addOptions_2 18 rfl rfl)
theorem dX4_addOptions_66 : decode cX4_addOptions 66 = .ok (.getfield 104, 3) := dk_180 0 104 (dk_at dksX4_addOptions_2 19 rfl rfl)
theorem dX4_addOptions_69 : decode cX4_addOptions 69 = .ok (.bipush 32, 2) := dk_16 32 (dk_at dksX4_addOptions_2 22 rfl rfl)
theorem dX4_addOptions_71 : decode cX4_addOptions 71 = .ok (.iload 6, 2) := dk_21 6 (dk_at dksX4_addOptions_3 0 rfl rfl)
theorem dX4_addOptions_73 : decode cX4_addOptions 73 = .ok (.imul, 1) := dk_104 (dk_at dksX4_addOptions_3 2 rfl rfl)
theorem dX4_addOptions_74 : decode cX4_addOptions 74 = .ok (.iload_n 2, 1) := dk_28 (dk_at dksX4_addOptions_3 3 rfl rfl)
theorem dX4_addOptions_75 : decode cX4_addOptions 75 = .ok (.iadd, 1) := dk_96 (dk_at dksX4_addOptions_3 4 rfl rfl)
theorem dX4_addOptions_76 : decode cX4_addOptions 76 = .ok (.iaload, 1) := dk_46 (dk_at dksX4_addOptions_3 5 rfl rfl)
theorem dX4_addOptions_77 : decode cX4_addOptions 77 = .ok (.iload_n 3, 1) := dk_29 (dk_at dksX4_addOptions_3 6 rfl rfl)
theorem dX4_addOptions_78 : decode cX4_addOptions 78 = .ok (.invokevirtual 256, 3) := dk_182 1 0 (dk_at dksX4_addOptions_3 7 rfl rfl)
theorem dX4_addOptions_81 : decode cX4_addOptions 81 = .ok (.iinc 6 1, 3) := dk_132 6 1 (dk_at dksX4_addOptions_3 10 rfl rfl)
theorem dX4_addOptions_84 : decode cX4_addOptions 84 = .ok (.goto (-37), 3) := dk_167 255 219 (dk_at dksX4_addOptions_3 13 rfl rfl)
theorem dX4_addOptions_87 : decode cX4_addOptions 87 = .ok (.iconst 0, 1) := dk_3 (dk_at dksX4_addOptions_3 16 rfl rfl)
theorem dX4_addOptions_88 : decode cX4_addOptions 88 = .ok (.istore 6, 2) := dk_54 6 (dk_at dksX4_addOptions_3 17 rfl rfl)
theorem dX4_addOptions_90 : decode cX4_addOptions 90 = .ok (.iload 6, 2) := dk_21 6 (dk_at dksX4_addOptions_3 19 rfl rfl)
theorem dX4_addOptions_92 : decode cX4_addOptions 92 = .ok (.iload_n 2, 1) := dk_28 (dk_at dksX4_addOptions_3 21 rfl rfl)
theorem dX4_addOptions_93 : decode cX4_addOptions 93 = .ok (.if_icmp .ge 37, 3) := dk_162 0 37 (dk_at dksX4_addOptions_4 0 rfl rfl)
theorem dX4_addOptions_96 : decode cX4_addOptions 96 = .ok (.iload 5, 2) := dk_21 5 (dk_at dksX4_addOptions_4 3 rfl rfl)
theorem dX4_addOptions_98 : decode cX4_addOptions 98 = .ok (.iload 6, 2) := dk_21 6 (dk_at dksX4_addOptions_4 5 rfl rfl)
theorem dX4_addOptions_100 : decode cX4_addOptions 100 = .ok (.ishr, 1) := dk_122 (dk_at dksX4_addOptions_4 7 rfl rfl)
theorem dX4_addOptions_101 : decode cX4_addOptions 101 = .ok (.iconst 1, 1) := dk_4 (dk_at dksX4_addOptions_4 8 rfl rfl)
theorem dX4_addOptions_102 : decode cX4_addOptions 102 = .ok (.iand, 1) := dk_126 (dk_at dksX4_addOptions_4 9 rfl rfl)
theorem dX4_addOptions_103 : decode cX4_addOptions 103 = .ok (.iconst 1, 1) := dk_4 (dk_at dksX4_addOptions_4 10 rfl rfl)
theorem dX4_addOptions_104 : decode cX4_addOptions 104 = .ok (.if_icmp .ne 20, 3) := dk_160 0 20 (dk_at dksX4_addOptions_4 11 rfl rfl)
theorem dX4_addOptions_107 : decode cX4_addOptions 107 = .ok (.aload_n 0, 1) := dk_42 (dk_at dksX4_addOptions_4 14 rfl rfl)
theorem dX4_addOptions_108 : decode cX4_addOptions 108 = .ok (.aload_n 0, 1) := dk_42 (dk_at dksX4_addOptions_4 15 rfl rfl)
theorem dX4_addOptions_109 : decode cX4_addOptions 109 = .ok (.getfield 104, 3) := dk_180 0 104 (dk_at dksX4_addOptions_4 16 rfl rfl)
theorem dX4_addOptions_112 : decode cX4_addOptions 112 = .ok (.bipush 32, 2) := dk_16 32 (dk_at dksX4_addOptions_4 19 rfl rfl)
theorem dX4_addOptions_114 : decode cX4_addOptions 114 = .ok (.iload_n 1, 1) := dk_27 (dk_at dksX4_addOptions_4 21 rfl rfl)
theorem dX4_addOptions_115 : decode cX4_addOptions 115 = .ok (.imul, 1) := dk_104 (dk_at dksX4_addOptions_4 22 rfl rfl)
theorem dX4_addOptions_116 : decode cX4_addOptions 116 = .ok (.iload 6, 2) := dk_21 6 (dk_at dksX4_addOptions_5 0 rfl rfl)
theorem dX4_addOptions_118 : decode cX4_addOptions 118 = .ok (.iadd, 1) := dk_96 (dk_at dksX4_addOptions_5 2 rfl rfl)
theorem dX4_addOptions_119 : decode cX4_addOptions 119 = .ok (.iaload, 1) := dk_46 (dk_at dksX4_addOptions_5 3 rfl rfl)
theorem dX4_addOptions_120 : decode cX4_addOptions 120 = .ok (.iload_n 3, 1) := dk_29 (dk_at dksX4_addOptions_5 4 rfl rfl)
theorem dX4_addOptions_121 : decode cX4_addOptions 121 = .ok (.invokevirtual 256, 3) := dk_182 1 0 (dk_at dksX4_addOptions_5 5 rfl rfl)
theorem dX4_addOptions_124 : decode cX4_addOptions 124 = .ok (.iinc 6 1, 3) := dk_132 6 1 (dk_at dksX4_addOptions_5 8 rfl rfl)
theorem dX4_addOptions_127 : decode cX4_addOptions 127 = .ok (.goto (-37), 3) := dk_167 255 219 (dk_at dksX4_addOptions_5 11 rfl rfl)
theorem dX4_addOptions_130 : decode cX4_addOptions 130 = .ok (.return_, 1) := dk_177 (dk_at dksX4_addOptions_5 14 rfl rfl)
abbrev cX4_addOption : ByteArray := prog_18_method_37_code
def yX4_addOption : MethodName := ⟨RX4, "addOption", "(IZ)V"⟩
def dkwX4_addOption_1 : List UInt8 := [167, 0, 23, 42, 180, 0, 55, 42, 180, 0, 169, 27, 79, 42, 89, 180, 0, 169, 4, 96, 181, 0, 169, 177]
abbrev dktX4_addOption_1 : List UInt8 := dkwX4_addOption_1 ++ []
def dkwX4_addOption_0 : List UInt8 := [28, 153, 0, 26, 42, 180, 0, 52, 42, 180, 0, 166, 27, 79, 42, 89, 180, 0, 166, 4, 96, 181, 0, 166]
abbrev dktX4_addOption_0 : List UInt8 := dkwX4_addOption_0 ++ dktX4_addOption_1
theorem dksX4_addOption_0 : cX4_addOption.data.toList.drop 0 = dktX4_addOption_0 := by decide +kernel
theorem dksX4_addOption_1 : cX4_addOption.data.toList.drop 24 = dktX4_addOption_1 := dk_seg dksX4_addOption_0 24 rfl rfl
theorem dX4_addOption_0 : decode cX4_addOption 0 = .ok (.iload_n 2, 1) := dk_28 (dk_at dksX4_addOption_0 0 rfl rfl)
theorem dX4_addOption_1 : decode cX4_addOption 1 = .ok (.ifCond .eq 26, 3) := dk_153 0 26 (dk_at dksX4_addOption_0 1 rfl rfl)
theorem dX4_addOption_4 : decode cX4_addOption 4 = .ok (.aload_n 0, 1) := dk_42 (dk_at dksX4_addOption_0 4 rfl rfl)
theorem dX4_addOption_5 : decode cX4_addOption 5 = .ok (.getfield 52, 3) := dk_180 0 52 (dk_at dksX4_addOption_0 5 rfl rfl)
theorem dX4_addOption_8 : decode cX4_addOption 8 = .ok (.aload_n 0, 1) := dk_42 (dk_at dksX4_addOption_0 8 rfl rfl)
theorem dX4_addOption_9 : decode cX4_addOption 9 = .ok (.getfield 166, 3) := dk_180 0 166 (dk_at dksX4_addOption_0 9 rfl rfl)
theorem dX4_addOption_12 : decode cX4_addOption 12 = .ok (.iload_n 1, 1) := dk_27 (dk_at dksX4_addOption_0 12 rfl rfl)
theorem dX4_addOption_13 : decode cX4_addOption 13 = .ok (.iastore, 1) := dk_79 (dk_at dksX4_addOption_0 13 rfl rfl)
theorem dX4_addOption_14 : decode cX4_addOption 14 = .ok (.aload_n 0, 1) := dk_42 (dk_at dksX4_addOption_0 14 rfl rfl)
theorem dX4_addOption_15 : decode cX4_addOption 15 = .ok (.dup, 1) := dk_89 (dk_at dksX4_addOption_0 15 rfl rfl)
theorem dX4_addOption_16 : decode cX4_addOption 16 = .ok (.getfield 166, 3) := dk_180 0 166 (dk_at dksX4_addOption_0 16 rfl rfl)
theorem dX4_addOption_19 : decode cX4_addOption 19 = .ok (.iconst 1, 1) := dk_4 (dk_at dksX4_addOption_0 19 rfl rfl)
theorem dX4_addOption_20 : decode cX4_addOption 20 = .ok (.iadd, 1) := dk_96 (dk_at dksX4_addOption_0 20 rfl rfl)
theorem dX4_addOption_21 : decode cX4_addOption 21 = .ok (.putfield 166, 3) := dk_181 0 166 (dk_at dksX4_addOption_0 21 rfl rfl)
theorem dX4_addOption_24 : decode cX4_addOption 24 = .ok (.goto 23, 3) := dk_167 0 23 (dk_at dksX4_addOption_1 0 rfl rfl)
theorem dX4_addOption_27 : decode cX4_addOption 27 = .ok (.aload_n 0, 1) := dk_42 (dk_at dksX4_addOption_1 3 rfl rfl)
theorem dX4_addOption_28 : decode cX4_addOption 28 = .ok (.getfield 55, 3) := dk_180 0 55 (dk_at dksX4_addOption_1 4 rfl rfl)
theorem dX4_addOption_31 : decode cX4_addOption 31 = .ok (.aload_n 0, 1) := dk_42 (dk_at dksX4_addOption_1 7 rfl rfl)
theorem dX4_addOption_32 : decode cX4_addOption 32 = .ok (.getfield 169, 3) := dk_180 0 169 (dk_at dksX4_addOption_1 8 rfl rfl)
theorem dX4_addOption_35 : decode cX4_addOption 35 = .ok (.iload_n 1, 1) := dk_27 (dk_at dksX4_addOption_1 11 rfl rfl)
theorem dX4_addOption_36 : decode cX4_addOption 36 = .ok (.iastore, 1) := dk_79 (dk_at dksX4_addOption_1 12 rfl rfl)
theorem dX4_addOption_37 : decode cX4_addOption 37 = .ok (.aload_n 0, 1) := dk_42 (dk_at dksX4_addOption_1 13 rfl rfl)
theorem dX4_addOption_38 : decode cX4_addOption 38 = .ok (.dup, 1) := dk_89 (dk_at dksX4_addOption_1 14 rfl rfl)
theorem dX4_addOption_39 : decode cX4_addOption 39 = .ok (.getfield 169, 3) := dk_180 0 169 (dk_at dksX4_addOption_1 15 rfl rfl)
theorem dX4_addOption_42 : decode cX4_addOption 42 = .ok (.iconst 1, 1) := dk_4 (dk_at dksX4_addOption_1 18 rfl rfl)
theorem dX4_addOption_43 : decode cX4_addOption 43 = .ok (.iadd, 1) := dk_96 (dk_at dksX4_addOption_1 19 rfl rfl)
theorem dX4_addOption_44 : decode cX4_addOption 44 = .ok (.putfield 169, 3) := dk_181 0 169 (dk_at dksX4_addOption_1 20 rfl rfl)
theorem dX4_addOption_47 : decode cX4_addOption 47 = .ok (.return_, 1) := dk_177 (dk_at dksX4_addOption_1 23 rfl rfl)
abbrev cX4_canonical : ByteArray := prog_18_method_20_code
def yX4_canonical : MethodName := ⟨RX4, "canonical", "()I"⟩
def dkwX4_canonical_1 : List UInt8 := [42, 180, 0, 169, 3, 182, 0, 207, 181, 0, 169, 42, 27, 181, 0, 166, 42, 182, 0, 211, 172]
abbrev dktX4_canonical_1 : List UInt8 := dkwX4_canonical_1 ++ []
def dkwX4_canonical_0 : List UInt8 := [42, 182, 0, 204, 42, 42, 180, 0, 52, 42, 180, 0, 166, 4, 182, 0, 207, 60, 42, 42, 42, 180, 0, 55]
abbrev dktX4_canonical_0 : List UInt8 := dkwX4_canonical_0 ++ dktX4_canonical_1
theorem dksX4_canonical_0 : cX4_canonical.data.toList.drop 0 = dktX4_canonical_0 := by decide +kernel
theorem dksX4_canonical_1 : cX4_canonical.data.toList.drop 24 = dktX4_canonical_1 := dk_seg dksX4_canonical_0 24 rfl rfl
theorem dX4_canonical_0 : decode cX4_canonical 0 = .ok (.aload_n 0, 1) := dk_42 (dk_at dksX4_canonical_0 0 rfl rfl)
theorem dX4_canonical_1 : decode cX4_canonical 1 = .ok (.invokevirtual 204, 3) := dk_182 0 204 (dk_at dksX4_canonical_0 1 rfl rfl)
theorem dX4_canonical_4 : decode cX4_canonical 4 = .ok (.aload_n 0, 1) := dk_42 (dk_at dksX4_canonical_0 4 rfl rfl)
theorem dX4_canonical_5 : decode cX4_canonical 5 = .ok (.aload_n 0, 1) := dk_42 (dk_at dksX4_canonical_0 5 rfl rfl)
theorem dX4_canonical_6 : decode cX4_canonical 6 = .ok (.getfield 52, 3) := dk_180 0 52 (dk_at dksX4_canonical_0 6 rfl rfl)
theorem dX4_canonical_9 : decode cX4_canonical 9 = .ok (.aload_n 0, 1) := dk_42 (dk_at dksX4_canonical_0 9 rfl rfl)
theorem dX4_canonical_10 : decode cX4_canonical 10 = .ok (.getfield 166, 3) := dk_180 0 166 (dk_at dksX4_canonical_0 10 rfl rfl)
theorem dX4_canonical_13 : decode cX4_canonical 13 = .ok (.iconst 1, 1) := dk_4 (dk_at dksX4_canonical_0 13 rfl rfl)
theorem dX4_canonical_14 : decode cX4_canonical 14 = .ok (.invokevirtual 207, 3) := dk_182 0 207 (dk_at dksX4_canonical_0 14 rfl rfl)
theorem dX4_canonical_17 : decode cX4_canonical 17 = .ok (.istore_n 1, 1) := dk_60 (dk_at dksX4_canonical_0 17 rfl rfl)
theorem dX4_canonical_18 : decode cX4_canonical 18 = .ok (.aload_n 0, 1) := dk_42 (dk_at dksX4_canonical_0 18 rfl rfl)
theorem dX4_canonical_19 : decode cX4_canonical 19 = .ok (.aload_n 0, 1) := dk_42 (dk_at dksX4_canonical_0 19 rfl rfl)
theorem dX4_canonical_20 : decode cX4_canonical 20 = .ok (.aload_n 0, 1) := dk_42 (dk_at dksX4_canonical_0 20 rfl rfl)
theorem dX4_canonical_21 : decode cX4_canonical 21 = .ok (.getfield 55, 3) := dk_180 0 55 (dk_at dksX4_canonical_0 21 rfl rfl)
theorem dX4_canonical_24 : decode cX4_canonical 24 = .ok (.aload_n 0, 1) := dk_42 (dk_at dksX4_canonical_1 0 rfl rfl)
theorem dX4_canonical_25 : decode cX4_canonical 25 = .ok (.getfield 169, 3) := dk_180 0 169 (dk_at dksX4_canonical_1 1 rfl rfl)
theorem dX4_canonical_28 : decode cX4_canonical 28 = .ok (.iconst 0, 1) := dk_3 (dk_at dksX4_canonical_1 4 rfl rfl)
theorem dX4_canonical_29 : decode cX4_canonical 29 = .ok (.invokevirtual 207, 3) := dk_182 0 207 (dk_at dksX4_canonical_1 5 rfl rfl)
theorem dX4_canonical_32 : decode cX4_canonical 32 = .ok (.putfield 169, 3) := dk_181 0 169 (dk_at dksX4_canonical_1 8 rfl rfl)
theorem dX4_canonical_35 : decode cX4_canonical 35 = .ok (.aload_n 0, 1) := dk_42 (dk_at dksX4_canonical_1 11 rfl rfl)
theorem dX4_canonical_36 : decode cX4_canonical 36 = .ok (.iload_n 1, 1) := dk_27 (dk_at dksX4_canonical_1 12 rfl rfl)
theorem dX4_canonical_37 : decode cX4_canonical 37 = .ok (.putfield 166, 3) := dk_181 0 166 (dk_at dksX4_canonical_1 13 rfl rfl)
theorem dX4_canonical_40 : decode cX4_canonical 40 = .ok (.aload_n 0, 1) := dk_42 (dk_at dksX4_canonical_1 16 rfl rfl)
theorem dX4_canonical_41 : decode cX4_canonical 41 = .ok (.invokevirtual 211, 3) := dk_182 0 211 (dk_at dksX4_canonical_1 17 rfl rfl)
theorem dX4_canonical_44 : decode cX4_canonical 44 = .ok (.ireturn, 1) := dk_172 (dk_at dksX4_canonical_1 20 rfl rfl)
abbrev cX4_place : ByteArray := prog_18_method_16_code
def yX4_place : MethodName := ⟨RX4, "place", "()V"⟩
def dkwX4_place_9 : List UInt8 := [177]
abbrev dktX4_place_9 : List UInt8 := dkwX4_place_9 ++ []
def dkwX4_place_8 : List UInt8 := [167, 0, 4, 3, 62, 132, 4, 1, 167, 255, 217, 42, 180, 0, 58, 27, 29, 84, 132, 1, 1, 167, 255, 51]
abbrev dktX4_place_8 : List UInt8 := dkwX4_place_8 ++ dktX4_place_9
def dkwX4_place_7 : List UInt8 := [162, 0, 34, 29, 153, 0, 22, 42, 180, 0, 61, 42, 27, 21, 4, 182, 0, 192, 51, 154, 0, 7, 4]
abbrev dktX4_place_7 : List UInt8 := dkwX4_place_7 ++ dktX4_place_8
def dkwX4_place_6 : List UInt8 := [167, 0, 4, 3, 62, 132, 4, 1, 167, 255, 219, 3, 54, 4, 21, 4, 42, 180, 0, 37, 27, 46]
abbrev dktX4_place_6 : List UInt8 := dkwX4_place_6 ++ dktX4_place_7
def dkwX4_place_5 : List UInt8 := [162, 0, 34, 29, 153, 0, 22, 42, 27, 42, 180, 0, 52, 21, 4, 46, 182, 0, 188, 154, 0, 7, 4]
abbrev dktX4_place_5 : List UInt8 := dkwX4_place_5 ++ dktX4_place_6
def dkwX4_place_4 : List UInt8 := [132, 4, 1, 167, 255, 219, 42, 180, 0, 61, 27, 28, 84, 3, 54, 4, 21, 4, 42, 180, 0, 166]
abbrev dktX4_place_4 : List UInt8 := dkwX4_place_4 ++ dktX4_place_5
def dkwX4_place_3 : List UInt8 := [153, 0, 22, 42, 42, 180, 0, 55, 21, 4, 46, 27, 182, 0, 188, 154, 0, 7, 4, 167, 0, 4, 3, 61]
abbrev dktX4_place_3 : List UInt8 := dkwX4_place_3 ++ dktX4_place_4
def dkwX4_place_2 : List UInt8 := [167, 0, 4, 3, 61, 132, 4, 1, 167, 255, 217, 3, 54, 4, 21, 4, 42, 180, 0, 169, 162, 0, 34, 28]
abbrev dktX4_place_2 : List UInt8 := dkwX4_place_2 ++ dktX4_place_3
def dkwX4_place_1 : List UInt8 := [46, 162, 0, 34, 28, 153, 0, 22, 42, 180, 0, 58, 42, 27, 21, 4, 182, 0, 184, 51, 154, 0, 7, 4]
abbrev dktX4_place_1 : List UInt8 := dkwX4_place_1 ++ dktX4_place_2
def dkwX4_place_0 : List UInt8 := [3, 60, 27, 42, 180, 0, 160, 162, 0, 203, 4, 61, 4, 62, 3, 54, 4, 21, 4, 42, 180, 0, 34, 27]
abbrev dktX4_place_0 : List UInt8 := dkwX4_place_0 ++ dktX4_place_1
theorem dksX4_place_0 : cX4_place.data.toList.drop 0 = dktX4_place_0 := by decide +kernel
theorem dksX4_place_1 : cX4_place.data.toList.drop 24 = dktX4_place_1 := dk_seg dksX4_place_0 24 rfl rfl
theorem dksX4_place_2 : cX4_place.data.toList.drop 48 = dktX4_place_2 := dk_seg dksX4_place_1 24 rfl rfl
theorem dksX4_place_3 : cX4_place.data.toList.drop 72 = dktX4_place_3 := dk_seg dksX4_place_2 24 rfl rfl
theorem dksX4_place_4 : cX4_place.data.toList.drop 96 = dktX4_place_4 := dk_seg dksX4_place_3 24 rfl rfl
theorem dksX4_place_5 : cX4_place.data.toList.drop 118 = dktX4_place_5 := dk_seg dksX4_place_4 22 rfl rfl
theorem dksX4_place_6 : cX4_place.data.toList.drop 141 = dktX4_place_6 := dk_seg dksX4_place_5 23 rfl rfl
theorem dksX4_place_7 : cX4_place.data.toList.drop 163 = dktX4_place_7 := dk_seg dksX4_place_6 22 rfl rfl
theorem dksX4_place_8 : cX4_place.data.toList.drop 186 = dktX4_place_8 := dk_seg dksX4_place_7 23 rfl rfl
theorem dksX4_place_9 : cX4_place.data.toList.drop 210 = dktX4_place_9 := dk_seg dksX4_place_8 24 rfl rfl
theorem dX4_place_0 : decode cX4_place 0 = .ok (.iconst 0, 1) := dk_3 (dk_at dksX4_place_0 0 rfl rfl)
theorem dX4_place_1 : decode cX4_place 1 = .ok (.istore_n 1, 1) := dk_60 (dk_at dksX4_place_0 1 rfl rfl)
theorem dX4_place_2 : decode cX4_place 2 = .ok (.iload_n 1, 1) := dk_27 (dk_at dksX4_place_0 2 rfl rfl)
theorem dX4_place_3 : decode cX4_place 3 = .ok (.aload_n 0, 1) := dk_42 (dk_at dksX4_place_0 3 rfl rfl)
theorem dX4_place_4 : decode cX4_place 4 = .ok (.getfield 160, 3) := dk_180 0 160 (dk_at dksX4_place_0 4 rfl rfl)
theorem dX4_place_7 : decode cX4_place 7 = .ok (.if_icmp .ge 203, 3) := dk_162 0 203 (dk_at dksX4_place_0 7 rfl rfl)
theorem dX4_place_10 : decode cX4_place 10 = .ok (.iconst 1, 1) := dk_4 (dk_at dksX4_place_0 10 rfl rfl)
theorem dX4_place_11 : decode cX4_place 11 = .ok (.istore_n 2, 1) := dk_61 (dk_at dksX4_place_0 11 rfl rfl)
theorem dX4_place_12 : decode cX4_place 12 = .ok (.iconst 1, 1) := dk_4 (dk_at dksX4_place_0 12 rfl rfl)
theorem dX4_place_13 : decode cX4_place 13 = .ok (.istore_n 3, 1) := dk_62 (dk_at dksX4_place_0 13 rfl rfl)
theorem dX4_place_14 : decode cX4_place 14 = .ok (.iconst 0, 1) := dk_3 (dk_at dksX4_place_0 14 rfl rfl)
theorem dX4_place_15 : decode cX4_place 15 = .ok (.istore 4, 2) := dk_54 4 (dk_at dksX4_place_0 15 rfl rfl)
theorem dX4_place_17 : decode cX4_place 17 = .ok (.iload 4, 2) := dk_21 4 (dk_at dksX4_place_0 17 rfl rfl)
theorem dX4_place_19 : decode cX4_place 19 = .ok (.aload_n 0, 1) := dk_42 (dk_at dksX4_place_0 19 rfl rfl)
theorem dX4_place_20 : decode cX4_place 20 = .ok (.getfield 34, 3) := dk_180 0 34 (dk_at dksX4_place_0 20 rfl rfl)
theorem dX4_place_23 : decode cX4_place 23 = .ok (.iload_n 1, 1) := dk_27 (dk_at dksX4_place_0 23 rfl rfl)
theorem dX4_place_24 : decode cX4_place 24 = .ok (.iaload, 1) := dk_46 (dk_at dksX4_place_1 0 rfl rfl)
theorem dX4_place_25 : decode cX4_place 25 = .ok (.if_icmp .ge 34, 3) := dk_162 0 34 (dk_at dksX4_place_1 1 rfl rfl)
theorem dX4_place_28 : decode cX4_place 28 = .ok (.iload_n 2, 1) := dk_28 (dk_at dksX4_place_1 4 rfl rfl)
theorem dX4_place_29 : decode cX4_place 29 = .ok (.ifCond .eq 22, 3) := dk_153 0 22 (dk_at dksX4_place_1 5 rfl rfl)
theorem dX4_place_32 : decode cX4_place 32 = .ok (.aload_n 0, 1) := dk_42 (dk_at dksX4_place_1 8 rfl rfl)
theorem dX4_place_33 : decode cX4_place 33 = .ok (.getfield 58, 3) := dk_180 0 58 (dk_at dksX4_place_1 9 rfl rfl)
theorem dX4_place_36 : decode cX4_place 36 = .ok (.aload_n 0, 1) := dk_42 (dk_at dksX4_place_1 12 rfl rfl)
theorem dX4_place_37 : decode cX4_place 37 = .ok (.iload_n 1, 1) := dk_27 (dk_at dksX4_place_1 13 rfl rfl)
theorem dX4_place_38 : decode cX4_place 38 = .ok (.iload 4, 2) := dk_21 4 (dk_at dksX4_place_1 14 rfl rfl)
theorem dX4_place_40 : decode cX4_place 40 = .ok (.invokevirtual 184, 3) := dk_182 0 184 (dk_at dksX4_place_1 16 rfl rfl)
theorem dX4_place_43 : decode cX4_place 43 = .ok (.baload, 1) := dk_51 (dk_at dksX4_place_1 19 rfl rfl)
theorem dX4_place_44 : decode cX4_place 44 = .ok (.ifCond .ne 7, 3) := dk_154 0 7 (dk_at dksX4_place_1 20 rfl rfl)
theorem dX4_place_47 : decode cX4_place 47 = .ok (.iconst 1, 1) := dk_4 (dk_at dksX4_place_1 23 rfl rfl)
theorem dX4_place_48 : decode cX4_place 48 = .ok (.goto 4, 3) := dk_167 0 4 (dk_at dksX4_place_2 0 rfl rfl)
theorem dX4_place_51 : decode cX4_place 51 = .ok (.iconst 0, 1) := dk_3 (dk_at dksX4_place_2 3 rfl rfl)
theorem dX4_place_52 : decode cX4_place 52 = .ok (.istore_n 2, 1) := dk_61 (dk_at dksX4_place_2 4 rfl rfl)
theorem dX4_place_53 : decode cX4_place 53 = .ok (.iinc 4 1, 3) := dk_132 4 1 (dk_at dksX4_place_2 5 rfl rfl)
theorem dX4_place_56 : decode cX4_place 56 = .ok (.goto (-39), 3) := dk_167 255 217 (dk_at dksX4_place_2 8 rfl rfl)
theorem dX4_place_59 : decode cX4_place 59 = .ok (.iconst 0, 1) := dk_3 (dk_at dksX4_place_2 11 rfl rfl)
theorem dX4_place_60 : decode cX4_place 60 = .ok (.istore 4, 2) := dk_54 4 (dk_at dksX4_place_2 12 rfl rfl)
theorem dX4_place_62 : decode cX4_place 62 = .ok (.iload 4, 2) := dk_21 4 (dk_at dksX4_place_2 14 rfl rfl)
theorem dX4_place_64 : decode cX4_place 64 = .ok (.aload_n 0, 1) := dk_42 (dk_at dksX4_place_2 16 rfl rfl)
theorem dX4_place_65 : decode cX4_place 65 = .ok (.getfield 169, 3) := dk_180 0 169 (dk_at dksX4_place_2 17 rfl rfl)
theorem dX4_place_68 : decode cX4_place 68 = .ok (.if_icmp .ge 34, 3) := dk_162 0 34 (dk_at dksX4_place_2 20 rfl rfl)
theorem dX4_place_71 : decode cX4_place 71 = .ok (.iload_n 2, 1) := dk_28 (dk_at dksX4_place_2 23 rfl rfl)
theorem dX4_place_72 : decode cX4_place 72 = .ok (.ifCond .eq 22, 3) := dk_153 0 22 (dk_at dksX4_place_3 0 rfl rfl)
theorem dX4_place_75 : decode cX4_place 75 = .ok (.aload_n 0, 1) := dk_42 (dk_at dksX4_place_3 3 rfl rfl)
theorem dX4_place_76 : decode cX4_place 76 = .ok (.aload_n 0, 1) := dk_42 (dk_at dksX4_place_3 4 rfl rfl)
theorem dX4_place_77 : decode cX4_place 77 = .ok (.getfield 55, 3) := dk_180 0 55 (dk_at dksX4_place_3 5 rfl rfl)
theorem dX4_place_80 : decode cX4_place 80 = .ok (.iload 4, 2) := dk_21 4 (dk_at dksX4_place_3 8 rfl rfl)
theorem dX4_place_82 : decode cX4_place 82 = .ok (.iaload, 1) := dk_46 (dk_at dksX4_place_3 10 rfl rfl)
theorem dX4_place_83 : decode cX4_place 83 = .ok (.iload_n 1, 1) := dk_27 (dk_at dksX4_place_3 11 rfl rfl)
theorem dX4_place_84 : decode cX4_place 84 = .ok (.invokevirtual 188, 3) := dk_182 0 188 (dk_at dksX4_place_3 12 rfl rfl)
theorem dX4_place_87 : decode cX4_place 87 = .ok (.ifCond .ne 7, 3) := dk_154 0 7 (dk_at dksX4_place_3 15 rfl rfl)
theorem dX4_place_90 : decode cX4_place 90 = .ok (.iconst 1, 1) := dk_4 (dk_at dksX4_place_3 18 rfl rfl)
theorem dX4_place_91 : decode cX4_place 91 = .ok (.goto 4, 3) := dk_167 0 4 (dk_at dksX4_place_3 19 rfl rfl)
theorem dX4_place_94 : decode cX4_place 94 = .ok (.iconst 0, 1) := dk_3 (dk_at dksX4_place_3 22 rfl rfl)
theorem dX4_place_95 : decode cX4_place 95 = .ok (.istore_n 2, 1) := dk_61 (dk_at dksX4_place_3 23 rfl rfl)
theorem dX4_place_96 : decode cX4_place 96 = .ok (.iinc 4 1, 3) := dk_132 4 1 (dk_at dksX4_place_4 0 rfl rfl)
theorem dX4_place_99 : decode cX4_place 99 = .ok (.goto (-37), 3) := dk_167 255 219 (dk_at dksX4_place_4 3 rfl rfl)
theorem dX4_place_102 : decode cX4_place 102 = .ok (.aload_n 0, 1) := dk_42 (dk_at dksX4_place_4 6 rfl rfl)
theorem dX4_place_103 : decode cX4_place 103 = .ok (.getfield 61, 3) := dk_180 0 61 (dk_at dksX4_place_4 7 rfl rfl)
theorem dX4_place_106 : decode cX4_place 106 = .ok (.iload_n 1, 1) := dk_27 (dk_at dksX4_place_4 10 rfl rfl)
theorem dX4_place_107 : decode cX4_place 107 = .ok (.iload_n 2, 1) := dk_28 (dk_at dksX4_place_4 11 rfl rfl)
theorem dX4_place_108 : decode cX4_place 108 = .ok (.bastore, 1) := dk_84 (dk_at dksX4_place_4 12 rfl rfl)
theorem dX4_place_109 : decode cX4_place 109 = .ok (.iconst 0, 1) := dk_3 (dk_at dksX4_place_4 13 rfl rfl)
theorem dX4_place_110 : decode cX4_place 110 = .ok (.istore 4, 2) := dk_54 4 (dk_at dksX4_place_4 14 rfl rfl)
theorem dX4_place_112 : decode cX4_place 112 = .ok (.iload 4, 2) := dk_21 4 (dk_at dksX4_place_4 16 rfl rfl)
theorem dX4_place_114 : decode cX4_place 114 = .ok (.aload_n 0, 1) := dk_42 (dk_at dksX4_place_4 18 rfl rfl)
theorem dX4_place_115 : decode cX4_place 115 = .ok (.getfield 166, 3) := dk_180 0 166 (dk_at dksX4_place_4 19 rfl rfl)
theorem dX4_place_118 : decode cX4_place 118 = .ok (.if_icmp .ge 34, 3) := dk_162 0 34 (dk_at dksX4_place_5 0 rfl rfl)
theorem dX4_place_121 : decode cX4_place 121 = .ok (.iload_n 3, 1) := dk_29 (dk_at dksX4_place_5 3 rfl rfl)
theorem dX4_place_122 : decode cX4_place 122 = .ok (.ifCond .eq 22, 3) := dk_153 0 22 (dk_at dksX4_place_5 4 rfl rfl)
theorem dX4_place_125 : decode cX4_place 125 = .ok (.aload_n 0, 1) := dk_42 (dk_at dksX4_place_5 7 rfl rfl)
theorem dX4_place_126 : decode cX4_place 126 = .ok (.iload_n 1, 1) := dk_27 (dk_at dksX4_place_5 8 rfl rfl)
theorem dX4_place_127 : decode cX4_place 127 = .ok (.aload_n 0, 1) := dk_42 (dk_at dksX4_place_5 9 rfl rfl)
theorem dX4_place_128 : decode cX4_place 128 = .ok (.getfield 52, 3) := dk_180 0 52 (dk_at dksX4_place_5 10 rfl rfl)
theorem dX4_place_131 : decode cX4_place 131 = .ok (.iload 4, 2) := dk_21 4 (dk_at dksX4_place_5 13 rfl rfl)
theorem dX4_place_133 : decode cX4_place 133 = .ok (.iaload, 1) := dk_46 (dk_at dksX4_place_5 15 rfl rfl)
theorem dX4_place_134 : decode cX4_place 134 = .ok (.invokevirtual 188, 3) := dk_182 0 188 (dk_at dksX4_place_5 16 rfl rfl)
theorem dX4_place_137 : decode cX4_place 137 = .ok (.ifCond .ne 7, 3) := dk_154 0 7 (dk_at dksX4_place_5 19 rfl rfl)
theorem dX4_place_140 : decode cX4_place 140 = .ok (.iconst 1, 1) := dk_4 (dk_at dksX4_place_5 22 rfl rfl)
theorem dX4_place_141 : decode cX4_place 141 = .ok (.goto 4, 3) := dk_167 0 4 (dk_at dksX4_place_6 0 rfl rfl)
theorem dX4_place_144 : decode cX4_place 144 = .ok (.iconst 0, 1) := dk_3 (dk_at dksX4_place_6 3 rfl rfl)
theorem dX4_place_145 : decode cX4_place 145 = .ok (.istore_n 3, 1) := dk_62 (dk_at dksX4_place_6 4 rfl rfl)
theorem dX4_place_146 : decode cX4_place 146 = .ok (.iinc 4 1, 3) := dk_132 4 1 (dk_at dksX4_place_6 5 rfl rfl)
theorem dX4_place_149 : decode cX4_place 149 = .ok (.goto (-37), 3) := dk_167 255 219 (dk_at dksX4_place_6 8 rfl rfl)
theorem dX4_place_152 : decode cX4_place 152 = .ok (.iconst 0, 1) := dk_3 (dk_at dksX4_place_6 11 rfl rfl)
theorem dX4_place_153 : decode cX4_place 153 = .ok (.istore 4, 2) := dk_54 4 (dk_at dksX4_place_6 12 rfl rfl)
theorem dX4_place_155 : decode cX4_place 155 = .ok (.iload 4, 2) := dk_21 4 (dk_at dksX4_place_6 14 rfl rfl)
theorem dX4_place_157 : decode cX4_place 157 = .ok (.aload_n 0, 1) := dk_42 (dk_at dksX4_place_6 16 rfl rfl)
theorem dX4_place_158 : decode cX4_place 158 = .ok (.getfield 37, 3) := dk_180 0 37 (dk_at dksX4_place_6 17 rfl rfl)
theorem dX4_place_161 : decode cX4_place 161 = .ok (.iload_n 1, 1) := dk_27 (dk_at dksX4_place_6 20 rfl rfl)
theorem dX4_place_162 : decode cX4_place 162 = .ok (.iaload, 1) := dk_46 (dk_at dksX4_place_6 21 rfl rfl)
theorem dX4_place_163 : decode cX4_place 163 = .ok (.if_icmp .ge 34, 3) := dk_162 0 34 (dk_at dksX4_place_7 0 rfl rfl)
theorem dX4_place_166 : decode cX4_place 166 = .ok (.iload_n 3, 1) := dk_29 (dk_at dksX4_place_7 3 rfl rfl)
theorem dX4_place_167 : decode cX4_place 167 = .ok (.ifCond .eq 22, 3) := dk_153 0 22 (dk_at dksX4_place_7 4 rfl rfl)
theorem dX4_place_170 : decode cX4_place 170 = .ok (.aload_n 0, 1) := dk_42 (dk_at dksX4_place_7 7 rfl rfl)
theorem dX4_place_171 : decode cX4_place 171 = .ok (.getfield 61, 3) := dk_180 0 61 (dk_at dksX4_place_7 8 rfl rfl)
theorem dX4_place_174 : decode cX4_place 174 = .ok (.aload_n 0, 1) := dk_42 (dk_at dksX4_place_7 11 rfl rfl)
theorem dX4_place_175 : decode cX4_place 175 = .ok (.iload_n 1, 1) := dk_27 (dk_at dksX4_place_7 12 rfl rfl)
theorem dX4_place_176 : decode cX4_place 176 = .ok (.iload 4, 2) := dk_21 4 (dk_at dksX4_place_7 13 rfl rfl)
theorem dX4_place_178 : decode cX4_place 178 = .ok (.invokevirtual 192, 3) := dk_182 0 192 (dk_at dksX4_place_7 15 rfl rfl)
theorem dX4_place_181 : decode cX4_place 181 = .ok (.baload, 1) := dk_51 (dk_at dksX4_place_7 18 rfl rfl)
theorem dX4_place_182 : decode cX4_place 182 = .ok (.ifCond .ne 7, 3) := dk_154 0 7 (dk_at dksX4_place_7 19 rfl rfl)
theorem dX4_place_185 : decode cX4_place 185 = .ok (.iconst 1, 1) := dk_4 (dk_at dksX4_place_7 22 rfl rfl)
theorem dX4_place_186 : decode cX4_place 186 = .ok (.goto 4, 3) := dk_167 0 4 (dk_at dksX4_place_8 0 rfl rfl)
theorem dX4_place_189 : decode cX4_place 189 = .ok (.iconst 0, 1) := dk_3 (dk_at dksX4_place_8 3 rfl rfl)
theorem dX4_place_190 : decode cX4_place 190 = .ok (.istore_n 3, 1) := dk_62 (dk_at dksX4_place_8 4 rfl rfl)
theorem dX4_place_191 : decode cX4_place 191 = .ok (.iinc 4 1, 3) := dk_132 4 1 (dk_at dksX4_place_8 5 rfl rfl)
theorem dX4_place_194 : decode cX4_place 194 = .ok (.goto (-39), 3) := dk_167 255 217 (dk_at dksX4_place_8 8 rfl rfl)
theorem dX4_place_197 : decode cX4_place 197 = .ok (.aload_n 0, 1) := dk_42 (dk_at dksX4_place_8 11 rfl rfl)
theorem dX4_place_198 : decode cX4_place 198 = .ok (.getfield 58, 3) := dk_180 0 58 (dk_at dksX4_place_8 12 rfl rfl)
theorem dX4_place_201 : decode cX4_place 201 = .ok (.iload_n 1, 1) := dk_27 (dk_at dksX4_place_8 15 rfl rfl)
theorem dX4_place_202 : decode cX4_place 202 = .ok (.iload_n 3, 1) := dk_29 (dk_at dksX4_place_8 16 rfl rfl)
theorem dX4_place_203 : decode cX4_place 203 = .ok (.bastore, 1) := dk_84 (dk_at dksX4_place_8 17 rfl rfl)
theorem dX4_place_204 : decode cX4_place 204 = .ok (.iinc 1 1, 3) := dk_132 1 1 (dk_at dksX4_place_8 18 rfl rfl)
theorem dX4_place_207 : decode cX4_place 207 = .ok (.goto (-205), 3) := dk_167 255 51 (dk_at dksX4_place_8 21 rfl rfl)
theorem dX4_place_210 : decode cX4_place 210 = .ok (.return_, 1) := dk_177 (dk_at dksX4_place_9 0 rfl rfl)
abbrev cX4_left : ByteArray := prog_18_method_13_code
def yX4_left : MethodName := ⟨RX4, "left", "(II)I"⟩
def dkwX4_left_0 : List UInt8 := [42, 180, 0, 44, 42, 180, 0, 31, 27, 46, 28, 96, 46, 172]
abbrev dktX4_left_0 : List UInt8 := dkwX4_left_0 ++ []
theorem dksX4_left_0 : cX4_left.data.toList.drop 0 = dktX4_left_0 := by decide +kernel
theorem dX4_left_0 : decode cX4_left 0 = .ok (.aload_n 0, 1) := dk_42 (dk_at dksX4_left_0 0 rfl rfl)
theorem dX4_left_1 : decode cX4_left 1 = .ok (.getfield 44, 3) := dk_180 0 44 (dk_at dksX4_left_0 1 rfl rfl)
theorem dX4_left_4 : decode cX4_left 4 = .ok (.aload_n 0, 1) := dk_42 (dk_at dksX4_left_0 4 rfl rfl)
theorem dX4_left_5 : decode cX4_left 5 = .ok (.getfield 31, 3) := dk_180 0 31 (dk_at dksX4_left_0 5 rfl rfl)
theorem dX4_left_8 : decode cX4_left 8 = .ok (.iload_n 1, 1) := dk_27 (dk_at dksX4_left_0 8 rfl rfl)
theorem dX4_left_9 : decode cX4_left 9 = .ok (.iaload, 1) := dk_46 (dk_at dksX4_left_0 9 rfl rfl)
theorem dX4_left_10 : decode cX4_left 10 = .ok (.iload_n 2, 1) := dk_28 (dk_at dksX4_left_0 10 rfl rfl)
theorem dX4_left_11 : decode cX4_left 11 = .ok (.iadd, 1) := dk_96 (dk_at dksX4_left_0 11 rfl rfl)
theorem dX4_left_12 : decode cX4_left 12 = .ok (.iaload, 1) := dk_46 (dk_at dksX4_left_0 12 rfl rfl)
theorem dX4_left_13 : decode cX4_left 13 = .ok (.ireturn, 1) := dk_172 (dk_at dksX4_left_0 13 rfl rfl)
abbrev cX4_atMost : ByteArray := prog_18_method_9_code
def yX4_atMost : MethodName := ⟨RX4, "atMost", "(II)Z"⟩
def dkwX4_atMost_0 : List UInt8 := [42, 180, 0, 48, 17, 2, 128, 27, 104, 28, 96, 51, 172]
abbrev dktX4_atMost_0 : List UInt8 := dkwX4_atMost_0 ++ []
theorem dksX4_atMost_0 : cX4_atMost.data.toList.drop 0 = dktX4_atMost_0 := by decide +kernel
theorem dX4_atMost_0 : decode cX4_atMost 0 = .ok (.aload_n 0, 1) := dk_42 (dk_at dksX4_atMost_0 0 rfl rfl)
theorem dX4_atMost_1 : decode cX4_atMost 1 = .ok (.getfield 48, 3) := dk_180 0 48 (dk_at dksX4_atMost_0 1 rfl rfl)
theorem dX4_atMost_4 : decode cX4_atMost 4 = .ok (.sipush 640, 3) := dk_17 2 128 (dk_at dksX4_atMost_0 4 rfl rfl)
theorem dX4_atMost_7 : decode cX4_atMost 7 = .ok (.iload_n 1, 1) := dk_27 (dk_at dksX4_atMost_0 7 rfl rfl)
theorem dX4_atMost_8 : decode cX4_atMost 8 = .ok (.imul, 1) := dk_104 (dk_at dksX4_atMost_0 8 rfl rfl)
theorem dX4_atMost_9 : decode cX4_atMost 9 = .ok (.iload_n 2, 1) := dk_28 (dk_at dksX4_atMost_0 9 rfl rfl)
theorem dX4_atMost_10 : decode cX4_atMost 10 = .ok (.iadd, 1) := dk_96 (dk_at dksX4_atMost_0 10 rfl rfl)
theorem dX4_atMost_11 : decode cX4_atMost 11 = .ok (.baload, 1) := dk_51 (dk_at dksX4_atMost_0 11 rfl rfl)
theorem dX4_atMost_12 : decode cX4_atMost 12 = .ok (.ireturn, 1) := dk_172 (dk_at dksX4_atMost_0 12 rfl rfl)
abbrev cX4_right : ByteArray := prog_18_method_14_code
def yX4_right : MethodName := ⟨RX4, "right", "(II)I"⟩
def dkwX4_right_0 : List UInt8 := [42, 180, 0, 44, 42, 180, 0, 31, 27, 46, 42, 180, 0, 34, 27, 46, 96, 28, 96, 46, 172]
abbrev dktX4_right_0 : List UInt8 := dkwX4_right_0 ++ []
theorem dksX4_right_0 : cX4_right.data.toList.drop 0 = dktX4_right_0 := by decide +kernel
theorem dX4_right_0 : decode cX4_right 0 = .ok (.aload_n 0, 1) := dk_42 (dk_at dksX4_right_0 0 rfl rfl)
theorem dX4_right_1 : decode cX4_right 1 = .ok (.getfield 44, 3) := dk_180 0 44 (dk_at dksX4_right_0 1 rfl rfl)
theorem dX4_right_4 : decode cX4_right 4 = .ok (.aload_n 0, 1) := dk_42 (dk_at dksX4_right_0 4 rfl rfl)
theorem dX4_right_5 : decode cX4_right 5 = .ok (.getfield 31, 3) := dk_180 0 31 (dk_at dksX4_right_0 5 rfl rfl)
theorem dX4_right_8 : decode cX4_right 8 = .ok (.iload_n 1, 1) := dk_27 (dk_at dksX4_right_0 8 rfl rfl)
theorem dX4_right_9 : decode cX4_right 9 = .ok (.iaload, 1) := dk_46 (dk_at dksX4_right_0 9 rfl rfl)
theorem dX4_right_10 : decode cX4_right 10 = .ok (.aload_n 0, 1) := dk_42 (dk_at dksX4_right_0 10 rfl rfl)
theorem dX4_right_11 : decode cX4_right 11 = .ok (.getfield 34, 3) := dk_180 0 34 (dk_at dksX4_right_0 11 rfl rfl)
theorem dX4_right_14 : decode cX4_right 14 = .ok (.iload_n 1, 1) := dk_27 (dk_at dksX4_right_0 14 rfl rfl)
theorem dX4_right_15 : decode cX4_right 15 = .ok (.iaload, 1) := dk_46 (dk_at dksX4_right_0 15 rfl rfl)
theorem dX4_right_16 : decode cX4_right 16 = .ok (.iadd, 1) := dk_96 (dk_at dksX4_right_0 16 rfl rfl)
theorem dX4_right_17 : decode cX4_right 17 = .ok (.iload_n 2, 1) := dk_28 (dk_at dksX4_right_0 17 rfl rfl)
theorem dX4_right_18 : decode cX4_right 18 = .ok (.iadd, 1) := dk_96 (dk_at dksX4_right_0 18 rfl rfl)
theorem dX4_right_19 : decode cX4_right 19 = .ok (.iaload, 1) := dk_46 (dk_at dksX4_right_0 19 rfl rfl)
theorem dX4_right_20 : decode cX4_right 20 = .ok (.ireturn, 1) := dk_172 (dk_at dksX4_right_0 20 rfl rfl)
abbrev cX4_clean : ByteArray := prog_18_method_18_code
def yX4_clean : MethodName := ⟨RX4, "clean", "([IIZ)I"⟩
def dkwX4_clean_11 : List UInt8 := [132, 6, 1, 167, 255, 215, 21, 5, 172]
abbrev dktX4_clean_11 : List UInt8 := dkwX4_clean_11 ++ []
def dkwX4_clean_10 : List UInt8 := [51, 153, 0, 22, 42, 21, 6, 29, 182, 0, 200, 154, 0, 12, 43, 21, 5, 21, 6, 79, 132, 5, 1]
abbrev dktX4_clean_10 : List UInt8 := dkwX4_clean_10 ++ dktX4_clean_11
def dkwX4_clean_9 : List UInt8 := [167, 255, 103, 3, 54, 5, 3, 54, 6, 21, 6, 42, 180, 0, 160, 162, 0, 38, 42, 180, 0, 64, 21, 6]
abbrev dktX4_clean_9 : List UInt8 := dkwX4_clean_9 ++ dktX4_clean_10
def dkwX4_clean_8 : List UInt8 := [182, 0, 184, 167, 0, 11, 42, 21, 6, 21, 8, 182, 0, 192, 79, 132, 4, 1, 132, 8, 1, 167, 255, 213]
abbrev dktX4_clean_8 : List UInt8 := dkwX4_clean_8 ++ dktX4_clean_9
def dkwX4_clean_7 : List UInt8 := [54, 8, 21, 8, 21, 7, 162, 0, 42, 42, 180, 0, 67, 21, 4, 29, 153, 0, 14, 42, 21, 6, 21, 8]
abbrev dktX4_clean_7 : List UInt8 := dkwX4_clean_7 ++ dktX4_clean_8
def dkwX4_clean_6 : List UInt8 := [153, 0, 13, 42, 180, 0, 34, 21, 6, 46, 167, 0, 10, 42, 180, 0, 37, 21, 6, 46, 54, 7, 3]
abbrev dktX4_clean_6 : List UInt8 := dkwX4_clean_6 ++ dktX4_clean_7
def dkwX4_clean_5 : List UInt8 := [18, 195, 160, 0, 7, 4, 167, 0, 4, 3, 84, 21, 6, 18, 195, 160, 0, 7, 3, 167, 0, 24, 29]
abbrev dktX4_clean_5 : List UInt8 := dkwX4_clean_5 ++ dktX4_clean_6
def dkwX4_clean_4 : List UInt8 := [182, 0, 196, 54, 6, 42, 180, 0, 64, 21, 5, 42, 180, 0, 64, 21, 5, 51, 154, 0, 10, 21, 6]
abbrev dktX4_clean_4 : List UInt8 := dkwX4_clean_4 ++ dktX4_clean_5
def dkwX4_clean_3 : List UInt8 := [21, 4, 46, 54, 5, 42, 180, 0, 64, 21, 5, 51, 153, 0, 8, 18, 195, 167, 0, 10, 42, 21, 5, 29]
abbrev dktX4_clean_3 : List UInt8 := dkwX4_clean_3 ++ dktX4_clean_4
def dkwX4_clean_2 : List UInt8 := [46, 79, 132, 4, 1, 132, 5, 1, 167, 255, 233, 21, 4, 158, 0, 154, 132, 4, 255, 42, 180, 0, 67]
abbrev dktX4_clean_2 : List UInt8 := dkwX4_clean_2 ++ dktX4_clean_3
def dkwX4_clean_1 : List UInt8 := [167, 255, 236, 3, 54, 4, 3, 54, 5, 21, 5, 28, 162, 0, 23, 42, 180, 0, 67, 21, 4, 43, 21, 5]
abbrev dktX4_clean_1 : List UInt8 := dkwX4_clean_1 ++ dktX4_clean_2
def dkwX4_clean_0 : List UInt8 := [3, 54, 4, 21, 4, 42, 180, 0, 160, 162, 0, 17, 42, 180, 0, 64, 21, 4, 3, 84, 132, 4, 1]
abbrev dktX4_clean_0 : List UInt8 := dkwX4_clean_0 ++ dktX4_clean_1
theorem dksX4_clean_0 : cX4_clean.data.toList.drop 0 = dktX4_clean_0 := by decide +kernel
theorem dksX4_clean_1 : cX4_clean.data.toList.drop 23 = dktX4_clean_1 := dk_seg dksX4_clean_0 23 rfl rfl
theorem dksX4_clean_2 : cX4_clean.data.toList.drop 47 = dktX4_clean_2 := dk_seg dksX4_clean_1 24 rfl rfl
theorem dksX4_clean_3 : cX4_clean.data.toList.drop 70 = dktX4_clean_3 := dk_seg dksX4_clean_2 23 rfl rfl
theorem dksX4_clean_4 : cX4_clean.data.toList.drop 94 = dktX4_clean_4 := dk_seg dksX4_clean_3 24 rfl rfl
theorem dksX4_clean_5 : cX4_clean.data.toList.drop 117 = dktX4_clean_5 := dk_seg dksX4_clean_4 23 rfl rfl
theorem dksX4_clean_6 : cX4_clean.data.toList.drop 140 = dktX4_clean_6 := dk_seg dksX4_clean_5 23 rfl rfl
theorem dksX4_clean_7 : cX4_clean.data.toList.drop 163 = dktX4_clean_7 := dk_seg dksX4_clean_6 23 rfl rfl
theorem dksX4_clean_8 : cX4_clean.data.toList.drop 187 = dktX4_clean_8 := dk_seg dksX4_clean_7 24 rfl rfl
theorem dksX4_clean_9 : cX4_clean.data.toList.drop 211 = dktX4_clean_9 := dk_seg dksX4_clean_8 24 rfl rfl
theorem dksX4_clean_10 : cX4_clean.data.toList.drop 235 = dktX4_clean_10 := dk_seg dksX4_clean_9 24 rfl rfl
theorem dksX4_clean_11 : cX4_clean.data.toList.drop 258 = dktX4_clean_11 := dk_seg dksX4_clean_10 23 rfl rfl
theorem dX4_clean_0 : decode cX4_clean 0 = .ok (.iconst 0, 1) := dk_3 (dk_at dksX4_clean_0 0 rfl rfl)
theorem dX4_clean_1 : decode cX4_clean 1 = .ok (.istore 4, 2) := dk_54 4 (dk_at dksX4_clean_0 1 rfl rfl)
theorem dX4_clean_3 : decode cX4_clean 3 = .ok (.iload 4, 2) := dk_21 4 (dk_at dksX4_clean_0 3 rfl rfl)
theorem dX4_clean_5 : decode cX4_clean 5 = .ok (.aload_n 0, 1) := dk_42 (dk_at dksX4_clean_0 5 rfl rfl)
theorem dX4_clean_6 : decode cX4_clean 6 = .ok (.getfield 160, 3) := dk_180 0 160 (dk_at dksX4_clean_0 6 rfl rfl)
theorem dX4_clean_9 : decode cX4_clean 9 = .ok (.if_icmp .ge 17, 3) := dk_162 0 17 (dk_at dksX4_clean_0 9 rfl rfl)
theorem dX4_clean_12 : decode cX4_clean 12 = .ok (.aload_n 0, 1) := dk_42 (dk_at dksX4_clean_0 12 rfl rfl)
theorem dX4_clean_13 : decode cX4_clean 13 = .ok (.getfield 64, 3) := dk_180 0 64 (dk_at dksX4_clean_0 13 rfl rfl)
theorem dX4_clean_16 : decode cX4_clean 16 = .ok (.iload 4, 2) := dk_21 4 (dk_at dksX4_clean_0 16 rfl rfl)
theorem dX4_clean_18 : decode cX4_clean 18 = .ok (.iconst 0, 1) := dk_3 (dk_at dksX4_clean_0 18 rfl rfl)
theorem dX4_clean_19 : decode cX4_clean 19 = .ok (.bastore, 1) := dk_84 (dk_at dksX4_clean_0 19 rfl rfl)
theorem dX4_clean_20 : decode cX4_clean 20 = .ok (.iinc 4 1, 3) := dk_132 4 1 (dk_at dksX4_clean_0 20 rfl rfl)
theorem dX4_clean_23 : decode cX4_clean 23 = .ok (.goto (-20), 3) := dk_167 255 236 (dk_at dksX4_clean_1 0 rfl rfl)
theorem dX4_clean_26 : decode cX4_clean 26 = .ok (.iconst 0, 1) := dk_3 (dk_at dksX4_clean_1 3 rfl rfl)
theorem dX4_clean_27 : decode cX4_clean 27 = .ok (.istore 4, 2) := dk_54 4 (dk_at dksX4_clean_1 4 rfl rfl)
theorem dX4_clean_29 : decode cX4_clean 29 = .ok (.iconst 0, 1) := dk_3 (dk_at dksX4_clean_1 6 rfl rfl)
theorem dX4_clean_30 : decode cX4_clean 30 = .ok (.istore 5, 2) := dk_54 5 (dk_at dksX4_clean_1 7 rfl rfl)
theorem dX4_clean_32 : decode cX4_clean 32 = .ok (.iload 5, 2) := dk_21 5 (dk_at dksX4_clean_1 9 rfl rfl)
theorem dX4_clean_34 : decode cX4_clean 34 = .ok (.iload_n 2, 1) := dk_28 (dk_at dksX4_clean_1 11 rfl rfl)
theorem dX4_clean_35 : decode cX4_clean 35 = .ok (.if_icmp .ge 23, 3) := dk_162 0 23 (dk_at dksX4_clean_1 12 rfl rfl)
theorem dX4_clean_38 : decode cX4_clean 38 = .ok (.aload_n 0, 1) := dk_42 (dk_at dksX4_clean_1 15 rfl rfl)
theorem dX4_clean_39 : decode cX4_clean 39 = .ok (.getfield 67, 3) := dk_180 0 67 (dk_at dksX4_clean_1 16 rfl rfl)
theorem dX4_clean_42 : decode cX4_clean 42 = .ok (.iload 4, 2) := dk_21 4 (dk_at dksX4_clean_1 19 rfl rfl)
theorem dX4_clean_44 : decode cX4_clean 44 = .ok (.aload_n 1, 1) := dk_43 (dk_at dksX4_clean_1 21 rfl rfl)
theorem dX4_clean_45 : decode cX4_clean 45 = .ok (.iload 5, 2) := dk_21 5 (dk_at dksX4_clean_1 22 rfl rfl)
theorem dX4_clean_47 : decode cX4_clean 47 = .ok (.iaload, 1) := dk_46 (dk_at dksX4_clean_2 0 rfl rfl)
theorem dX4_clean_48 : decode cX4_clean 48 = .ok (.iastore, 1) := dk_79 (dk_at dksX4_clean_2 1 rfl rfl)
theorem dX4_clean_49 : decode cX4_clean 49 = .ok (.iinc 4 1, 3) := dk_132 4 1 (dk_at dksX4_clean_2 2 rfl rfl)
theorem dX4_clean_52 : decode cX4_clean 52 = .ok (.iinc 5 1, 3) := dk_132 5 1 (dk_at dksX4_clean_2 5 rfl rfl)
theorem dX4_clean_55 : decode cX4_clean 55 = .ok (.goto (-23), 3) := dk_167 255 233 (dk_at dksX4_clean_2 8 rfl rfl)
theorem dX4_clean_58 : decode cX4_clean 58 = .ok (.iload 4, 2) := dk_21 4 (dk_at dksX4_clean_2 11 rfl rfl)
theorem dX4_clean_60 : decode cX4_clean 60 = .ok (.ifCond .le 154, 3) := dk_158 0 154 (dk_at dksX4_clean_2 13 rfl rfl)
theorem dX4_clean_63 : decode cX4_clean 63 = .ok (.iinc 4 (-1), 3) := dk_132 4 255 (dk_at dksX4_clean_2 16 rfl rfl)
theorem dX4_clean_66 : decode cX4_clean 66 = .ok (.aload_n 0, 1) := dk_42 (dk_at dksX4_clean_2 19 rfl rfl)
theorem dX4_clean_67 : decode cX4_clean 67 = .ok (.getfield 67, 3) := dk_180 0 67 (dk_at dksX4_clean_2 20 rfl rfl)
theorem dX4_clean_70 : decode cX4_clean 70 = .ok (.iload 4, 2) := dk_21 4 (dk_at dksX4_clean_3 0 rfl rfl)
theorem dX4_clean_72 : decode cX4_clean 72 = .ok (.iaload, 1) := dk_46 (dk_at dksX4_clean_3 2 rfl rfl)
theorem dX4_clean_73 : decode cX4_clean 73 = .ok (.istore 5, 2) := dk_54 5 (dk_at dksX4_clean_3 3 rfl rfl)
theorem dX4_clean_75 : decode cX4_clean 75 = .ok (.aload_n 0, 1) := dk_42 (dk_at dksX4_clean_3 5 rfl rfl)
theorem dX4_clean_76 : decode cX4_clean 76 = .ok (.getfield 64, 3) := dk_180 0 64 (dk_at dksX4_clean_3 6 rfl rfl)
theorem dX4_clean_79 : decode cX4_clean 79 = .ok (.iload 5, 2) := dk_21 5 (dk_at dksX4_clean_3 9 rfl rfl)
theorem dX4_clean_81 : decode cX4_clean 81 = .ok (.baload, 1) := dk_51 (dk_at dksX4_clean_3 11 rfl rfl)
theorem dX4_clean_82 : decode cX4_clean 82 = .ok (.ifCond .eq 8, 3) := dk_153 0 8 (dk_at dksX4_clean_3 12 rfl rfl)
theorem dX4_clean_85 : decode cX4_clean 85 = .ok (.ldc 195, 2) := dk_18 195 (dk_at dksX4_clean_3 15 rfl rfl)
theorem dX4_clean_87 : decode cX4_clean 87 = .ok (.goto 10, 3) := dk_167 0 10 (dk_at dksX4_clean_3 17 rfl rfl)
theorem dX4_clean_90 : decode cX4_clean 90 = .ok (.aload_n 0, 1) := dk_42 (dk_at dksX4_clean_3 20 rfl rfl)
theorem dX4_clean_91 : decode cX4_clean 91 = .ok (.iload 5, 2) := dk_21 5 (dk_at dksX4_clean_3 21 rfl rfl)
theorem dX4_clean_93 : decode cX4_clean 93 = .ok (.iload_n 3, 1) := dk_29 (dk_at dksX4_clean_3 23 rfl rfl)
theorem dX4_clean_94 : decode cX4_clean 94 = .ok (.invokevirtual 196, 3) := dk_182 0 196 (dk_at dksX4_clean_4 0 rfl rfl)
theorem dX4_clean_97 : decode cX4_clean 97 = .ok (.istore 6, 2) := dk_54 6 (dk_at dksX4_clean_4 3 rfl rfl)
theorem dX4_clean_99 : decode cX4_clean 99 = .ok (.aload_n 0, 1) := dk_42 (dk_at dksX4_clean_4 5 rfl rfl)
theorem dX4_clean_100 : decode cX4_clean 100 = .ok (.getfield 64, 3) := dk_180 0 64 (dk_at dksX4_clean_4 6 rfl rfl)
theorem dX4_clean_103 : decode cX4_clean 103 = .ok (.iload 5, 2) := dk_21 5 (dk_at dksX4_clean_4 9 rfl rfl)
theorem dX4_clean_105 : decode cX4_clean 105 = .ok (.aload_n 0, 1) := dk_42 (dk_at dksX4_clean_4 11 rfl rfl)
theorem dX4_clean_106 : decode cX4_clean 106 = .ok (.getfield 64, 3) := dk_180 0 64 (dk_at dksX4_clean_4 12 rfl rfl)
theorem dX4_clean_109 : decode cX4_clean 109 = .ok (.iload 5, 2) := dk_21 5 (dk_at dksX4_clean_4 15 rfl rfl)
theorem dX4_clean_111 : decode cX4_clean 111 = .ok (.baload, 1) := dk_51 (dk_at dksX4_clean_4 17 rfl rfl)
theorem dX4_clean_112 : decode cX4_clean 112 = .ok (.ifCond .ne 10, 3) := dk_154 0 10 (dk_at dksX4_clean_4 18 rfl rfl)
theorem dX4_clean_115 : decode cX4_clean 115 = .ok (.iload 6, 2) := dk_21 6 (dk_at dksX4_clean_4 21 rfl rfl)
theorem dX4_clean_117 : decode cX4_clean 117 = .ok (.ldc 195, 2) := dk_18 195 (dk_at dksX4_clean_5 0 rfl rfl)
theorem dX4_clean_119 : decode cX4_clean 119 = .ok (.if_icmp .ne 7, 3) := dk_160 0 7 (dk_at dksX4_clean_5 2 rfl rfl)
theorem dX4_clean_122 : decode cX4_clean 122 = .ok (.iconst 1, 1) := dk_4 (dk_at dksX4_clean_5 5 rfl rfl)
theorem dX4_clean_123 : decode cX4_clean 123 = .ok (.goto 4, 3) := dk_167 0 4 (dk_at dksX4_clean_5 6 rfl rfl)
theorem dX4_clean_126 : decode cX4_clean 126 = .ok (.iconst 0, 1) := dk_3 (dk_at dksX4_clean_5 9 rfl rfl)
theorem dX4_clean_127 : decode cX4_clean 127 = .ok (.bastore, 1) := dk_84 (dk_at dksX4_clean_5 10 rfl rfl)
theorem dX4_clean_128 : decode cX4_clean 128 = .ok (.iload 6, 2) := dk_21 6 (dk_at dksX4_clean_5 11 rfl rfl)
theorem dX4_clean_130 : decode cX4_clean 130 = .ok (.ldc 195, 2) := dk_18 195 (dk_at dksX4_clean_5 13 rfl rfl)
theorem dX4_clean_132 : decode cX4_clean 132 = .ok (.if_icmp .ne 7, 3) := dk_160 0 7 (dk_at dksX4_clean_5 15 rfl rfl)
theorem dX4_clean_135 : decode cX4_clean 135 = .ok (.iconst 0, 1) := dk_3 (dk_at dksX4_clean_5 18 rfl rfl)
theorem dX4_clean_136 : decode cX4_clean 136 = .ok (.goto 24, 3) := dk_167 0 24 (dk_at dksX4_clean_5 19 rfl rfl)
theorem dX4_clean_139 : decode cX4_clean 139 = .ok (.iload_n 3, 1) := dk_29 (dk_at dksX4_clean_5 22 rfl rfl)
theorem dX4_clean_140 : decode cX4_clean 140 = .ok (.ifCond .eq 13, 3) := dk_153 0 13 (dk_at dksX4_clean_6 0 rfl rfl)
theorem dX4_clean_143 : decode cX4_clean 143 = .ok (.aload_n 0, 1) := dk_42 (dk_at dksX4_clean_6 3 rfl rfl)
theorem dX4_clean_144 : decode cX4_clean 144 = .ok (.getfield 34, 3) := dk_180 0 34 (dk_at dksX4_clean_6 4 rfl rfl)
theorem dX4_clean_147 : decode cX4_clean 147 = .ok (.iload 6, 2) := dk_21 6 (dk_at dksX4_clean_6 7 rfl rfl)
theorem dX4_clean_149 : decode cX4_clean 149 = .ok (.iaload, 1) := dk_46 (dk_at dksX4_clean_6 9 rfl rfl)
theorem dX4_clean_150 : decode cX4_clean 150 = .ok (.goto 10, 3) := dk_167 0 10 (dk_at dksX4_clean_6 10 rfl rfl)
theorem dX4_clean_153 : decode cX4_clean 153 = .ok (.aload_n 0, 1) := dk_42 (dk_at dksX4_clean_6 13 rfl rfl)
theorem dX4_clean_154 : decode cX4_clean 154 = .ok (.getfield 37, 3) := dk_180 0 37 (dk_at dksX4_clean_6 14 rfl rfl)
theorem dX4_clean_157 : decode cX4_clean 157 = .ok (.iload 6, 2) := dk_21 6 (dk_at dksX4_clean_6 17 rfl rfl)
theorem dX4_clean_159 : decode cX4_clean 159 = .ok (.iaload, 1) := dk_46 (dk_at dksX4_clean_6 19 rfl rfl)
theorem dX4_clean_160 : decode cX4_clean 160 = .ok (.istore 7, 2) := dk_54 7 (dk_at dksX4_clean_6 20 rfl rfl)
theorem dX4_clean_162 : decode cX4_clean 162 = .ok (.iconst 0, 1) := dk_3 (dk_at dksX4_clean_6 22 rfl rfl)
theorem dX4_clean_163 : decode cX4_clean 163 = .ok (.istore 8, 2) := dk_54 8 (dk_at dksX4_clean_7 0 rfl rfl)
theorem dX4_clean_165 : decode cX4_clean 165 = .ok (.iload 8, 2) := dk_21 8 (dk_at dksX4_clean_7 2 rfl rfl)
theorem dX4_clean_167 : decode cX4_clean 167 = .ok (.iload 7, 2) := dk_21 7 (dk_at dksX4_clean_7 4 rfl rfl)
theorem dX4_clean_169 : decode cX4_clean 169 = .ok (.if_icmp .ge 42, 3) := dk_162 0 42 (dk_at dksX4_clean_7 6 rfl rfl)
theorem dX4_clean_172 : decode cX4_clean 172 = .ok (.aload_n 0, 1) := dk_42 (dk_at dksX4_clean_7 9 rfl rfl)
theorem dX4_clean_173 : decode cX4_clean 173 = .ok (.getfield 67, 3) := dk_180 0 67 (dk_at dksX4_clean_7 10 rfl rfl)
theorem dX4_clean_176 : decode cX4_clean 176 = .ok (.iload 4, 2) := dk_21 4 (dk_at dksX4_clean_7 13 rfl rfl)
theorem dX4_clean_178 : decode cX4_clean 178 = .ok (.iload_n 3, 1) := dk_29 (dk_at dksX4_clean_7 15 rfl rfl)
theorem dX4_clean_179 : decode cX4_clean 179 = .ok (.ifCond .eq 14, 3) := dk_153 0 14 (dk_at dksX4_clean_7 16 rfl rfl)
theorem dX4_clean_182 : decode cX4_clean 182 = .ok (.aload_n 0, 1) := dk_42 (dk_at dksX4_clean_7 19 rfl rfl)
theorem dX4_clean_183 : decode cX4_clean 183 = .ok (.iload 6, 2) := dk_21 6 (dk_at dksX4_clean_7 20 rfl rfl)
theorem dX4_clean_185 : decode cX4_clean 185 = .ok (.iload 8, 2) := dk_21 8 (dk_at dksX4_clean_7 22 rfl rfl)
theorem dX4_clean_187 : decode cX4_clean 187 = .ok (.invokevirtual 184, 3) := dk_182 0 184 (dk_at dksX4_clean_8 0 rfl rfl)
theorem dX4_clean_190 : decode cX4_clean 190 = .ok (.goto 11, 3) := dk_167 0 11 (dk_at dksX4_clean_8 3 rfl rfl)
theorem dX4_clean_193 : decode cX4_clean 193 = .ok (.aload_n 0, 1) := dk_42 (dk_at dksX4_clean_8 6 rfl rfl)
theorem dX4_clean_194 : decode cX4_clean 194 = .ok (.iload 6, 2) := dk_21 6 (dk_at dksX4_clean_8 7 rfl rfl)
theorem dX4_clean_196 : decode cX4_clean 196 = .ok (.iload 8, 2) := dk_21 8 (dk_at dksX4_clean_8 9 rfl rfl)
theorem dX4_clean_198 : decode cX4_clean 198 = .ok (.invokevirtual 192, 3) := dk_182 0 192 (dk_at dksX4_clean_8 11 rfl rfl)
theorem dX4_clean_201 : decode cX4_clean 201 = .ok (.iastore, 1) := dk_79 (dk_at dksX4_clean_8 14 rfl rfl)
theorem dX4_clean_202 : decode cX4_clean 202 = .ok (.iinc 4 1, 3) := dk_132 4 1 (dk_at dksX4_clean_8 15 rfl rfl)
theorem dX4_clean_205 : decode cX4_clean 205 = .ok (.iinc 8 1, 3) := dk_132 8 1 (dk_at dksX4_clean_8 18 rfl rfl)
theorem dX4_clean_208 : decode cX4_clean 208 = .ok (.goto (-43), 3) := dk_167 255 213 (dk_at dksX4_clean_8 21 rfl rfl)
theorem dX4_clean_211 : decode cX4_clean 211 = .ok (.goto (-153), 3) := dk_167 255 103 (dk_at dksX4_clean_9 0 rfl rfl)
theorem dX4_clean_214 : decode cX4_clean 214 = .ok (.iconst 0, 1) := dk_3 (dk_at dksX4_clean_9 3 rfl rfl)
theorem dX4_clean_215 : decode cX4_clean 215 = .ok (.istore 5, 2) := dk_54 5 (dk_at dksX4_clean_9 4 rfl rfl)
theorem dX4_clean_217 : decode cX4_clean 217 = .ok (.iconst 0, 1) := dk_3 (dk_at dksX4_clean_9 6 rfl rfl)
theorem dX4_clean_218 : decode cX4_clean 218 = .ok (.istore 6, 2) := dk_54 6 (dk_at dksX4_clean_9 7 rfl rfl)
theorem dX4_clean_220 : decode cX4_clean 220 = .ok (.iload 6, 2) := dk_21 6 (dk_at dksX4_clean_9 9 rfl rfl)
theorem dX4_clean_222 : decode cX4_clean 222 = .ok (.aload_n 0, 1) := dk_42 (dk_at dksX4_clean_9 11 rfl rfl)
theorem dX4_clean_223 : decode cX4_clean 223 = .ok (.getfield 160, 3) := dk_180 0 160 (dk_at dksX4_clean_9 12 rfl rfl)
theorem dX4_clean_226 : decode cX4_clean 226 = .ok (.if_icmp .ge 38, 3) := dk_162 0 38 (dk_at dksX4_clean_9 15 rfl rfl)
theorem dX4_clean_229 : decode cX4_clean 229 = .ok (.aload_n 0, 1) := dk_42 (dk_at dksX4_clean_9 18 rfl rfl)
theorem dX4_clean_230 : decode cX4_clean 230 = .ok (.getfield 64, 3) := dk_180 0 64 (dk_at dksX4_clean_9 19 rfl rfl)
theorem dX4_clean_233 : decode cX4_clean 233 = .ok (.iload 6, 2) := dk_21 6 (dk_at dksX4_clean_9 22 rfl rfl)
theorem dX4_clean_235 : decode cX4_clean 235 = .ok (.baload, 1) := dk_51 (dk_at dksX4_clean_10 0 rfl rfl)
theorem dX4_clean_236 : decode cX4_clean 236 = .ok (.ifCond .eq 22, 3) := dk_153 0 22 (dk_at dksX4_clean_10 1 rfl rfl)
theorem dX4_clean_239 : decode cX4_clean 239 = .ok (.aload_n 0, 1) := dk_42 (dk_at dksX4_clean_10 4 rfl rfl)
theorem dX4_clean_240 : decode cX4_clean 240 = .ok (.iload 6, 2) := dk_21 6 (dk_at dksX4_clean_10 5 rfl rfl)
theorem dX4_clean_242 : decode cX4_clean 242 = .ok (.iload_n 3, 1) := dk_29 (dk_at dksX4_clean_10 7 rfl rfl)
theorem dX4_clean_243 : decode cX4_clean 243 = .ok (.invokevirtual 200, 3) := dk_182 0 200 (dk_at dksX4_clean_10 8 rfl rfl)
theorem dX4_clean_246 : decode cX4_clean 246 = .ok (.ifCond .ne 12, 3) := dk_154 0 12 (dk_at dksX4_clean_10 11 rfl rfl)
theorem dX4_clean_249 : decode cX4_clean 249 = .ok (.aload_n 1, 1) := dk_43 (dk_at dksX4_clean_10 14 rfl rfl)
theorem dX4_clean_250 : decode cX4_clean 250 = .ok (.iload 5, 2) := dk_21 5 (dk_at dksX4_clean_10 15 rfl rfl)
theorem dX4_clean_252 : decode cX4_clean 252 = .ok (.iload 6, 2) := dk_21 6 (dk_at dksX4_clean_10 17 rfl rfl)
theorem dX4_clean_254 : decode cX4_clean 254 = .ok (.iastore, 1) := dk_79 (dk_at dksX4_clean_10 19 rfl rfl)
theorem dX4_clean_255 : decode cX4_clean 255 = .ok (.iinc 5 1, 3) := dk_132 5 1 (dk_at dksX4_clean_10 20 rfl rfl)
theorem dX4_clean_258 : decode cX4_clean 258 = .ok (.iinc 6 1, 3) := dk_132 6 1 (dk_at dksX4_clean_11 0 rfl rfl)
theorem dX4_clean_261 : decode cX4_clean 261 = .ok (.goto (-41), 3) := dk_167 255 215 (dk_at dksX4_clean_11 3 rfl rfl)
theorem dX4_clean_264 : decode cX4_clean 264 = .ok (.iload 5, 2) := dk_21 5 (dk_at dksX4_clean_11 6 rfl rfl)
theorem dX4_clean_266 : decode cX4_clean 266 = .ok (.ireturn, 1) := dk_172 (dk_at dksX4_clean_11 8 rfl rfl)
abbrev cX4_reversing : ByteArray := prog_18_method_17_code
def yX4_reversing : MethodName := ⟨RX4, "reversing", "(IZ)I"⟩
def dkwX4_reversing_3 : List UInt8 := [180, 0, 58, 21, 5, 51, 153, 0, 6, 21, 5, 172, 132, 4, 1, 167, 255, 194, 18, 195, 172]
abbrev dktX4_reversing_3 : List UInt8 := dkwX4_reversing_3 ++ []
def dkwX4_reversing_2 : List UInt8 := [182, 0, 184, 54, 5, 28, 153, 0, 16, 42, 180, 0, 61, 21, 5, 51, 153, 0, 19, 167, 0, 13, 42]
abbrev dktX4_reversing_2 : List UInt8 := dkwX4_reversing_2 ++ dktX4_reversing_3
def dkwX4_reversing_1 : List UInt8 := [21, 4, 29, 162, 0, 62, 28, 153, 0, 13, 42, 27, 21, 4, 182, 0, 192, 167, 0, 10, 42, 27, 21, 4]
abbrev dktX4_reversing_1 : List UInt8 := dkwX4_reversing_1 ++ dktX4_reversing_2
def dkwX4_reversing_0 : List UInt8 := [28, 153, 0, 12, 42, 180, 0, 37, 27, 46, 167, 0, 9, 42, 180, 0, 34, 27, 46, 62, 3, 54, 4]
abbrev dktX4_reversing_0 : List UInt8 := dkwX4_reversing_0 ++ dktX4_reversing_1
theorem dksX4_reversing_0 : cX4_reversing.data.toList.drop 0 = dktX4_reversing_0 := by decide +kernel
theorem dksX4_reversing_1 : cX4_reversing.data.toList.drop 23 = dktX4_reversing_1 := dk_seg dksX4_reversing_0 23 rfl rfl
theorem dksX4_reversing_2 : cX4_reversing.data.toList.drop 47 = dktX4_reversing_2 := dk_seg dksX4_reversing_1 24 rfl rfl
theorem dksX4_reversing_3 : cX4_reversing.data.toList.drop 70 = dktX4_reversing_3 := dk_seg dksX4_reversing_2 23 rfl rfl
theorem dX4_reversing_0 : decode cX4_reversing 0 = .ok (.iload_n 2, 1) := dk_28 (dk_at dksX4_reversing_0 0 rfl rfl)
theorem dX4_reversing_1 : decode cX4_reversing 1 = .ok (.ifCond .eq 12, 3) := dk_153 0 12 (dk_at dksX4_reversing_0 1 rfl rfl)
theorem dX4_reversing_4 : decode cX4_reversing 4 = .ok (.aload_n 0, 1) := dk_42 (dk_at dksX4_reversing_0 4 rfl rfl)
theorem dX4_reversing_5 : decode cX4_reversing 5 = .ok (.getfield 37, 3) := dk_180 0 37 (dk_at dksX4_reversing_0 5 rfl rfl)
theorem dX4_reversing_8 : decode cX4_reversing 8 = .ok (.iload_n 1, 1) := dk_27 (dk_at dksX4_reversing_0 8 rfl rfl)
theorem dX4_reversing_9 : decode cX4_reversing 9 = .ok (.iaload, 1) := dk_46 (dk_at dksX4_reversing_0 9 rfl rfl)
theorem dX4_reversing_10 : decode cX4_reversing 10 = .ok (.goto 9, 3) := dk_167 0 9 (dk_at dksX4_reversing_0 10 rfl rfl)
theorem dX4_reversing_13 : decode cX4_reversing 13 = .ok (.aload_n 0, 1) := dk_42 (dk_at dksX4_reversing_0 13 rfl rfl)
theorem dX4_reversing_14 : decode cX4_reversing 14 = .ok (.getfield 34, 3) := dk_180 0 34 (dk_at dksX4_reversing_0 14 rfl rfl)
theorem dX4_reversing_17 : decode cX4_reversing 17 = .ok (.iload_n 1, 1) := dk_27 (dk_at dksX4_reversing_0 17 rfl rfl)
theorem dX4_reversing_18 : decode cX4_reversing 18 = .ok (.iaload, 1) := dk_46 (dk_at dksX4_reversing_0 18 rfl rfl)
theorem dX4_reversing_19 : decode cX4_reversing 19 = .ok (.istore_n 3, 1) := dk_62 (dk_at dksX4_reversing_0 19 rfl rfl)
theorem dX4_reversing_20 : decode cX4_reversing 20 = .ok (.iconst 0, 1) := dk_3 (dk_at dksX4_reversing_0 20 rfl rfl)
theorem dX4_reversing_21 : decode cX4_reversing 21 = .ok (.istore 4, 2) := dk_54 4 (dk_at dksX4_reversing_0 21 rfl rfl)
theorem dX4_reversing_23 : decode cX4_reversing 23 = .ok (.iload 4, 2) := dk_21 4 (dk_at dksX4_reversing_1 0 rfl rfl)
theorem dX4_reversing_25 : decode cX4_reversing 25 = .ok (.iload_n 3, 1) := dk_29 (dk_at dksX4_reversing_1 2 rfl rfl)
theorem dX4_reversing_26 : decode cX4_reversing 26 = .ok (.if_icmp .ge 62, 3) := dk_162 0 62 (dk_at dksX4_reversing_1 3 rfl rfl)
theorem dX4_reversing_29 : decode cX4_reversing 29 = .ok (.iload_n 2, 1) := dk_28 (dk_at dksX4_reversing_1 6 rfl rfl)
theorem dX4_reversing_30 : decode cX4_reversing 30 = .ok (.ifCond .eq 13, 3) := dk_153 0 13 (dk_at dksX4_reversing_1 7 rfl rfl)
theorem dX4_reversing_33 : decode cX4_reversing 33 = .ok (.aload_n 0, 1) := dk_42 (dk_at dksX4_reversing_1 10 rfl rfl)
theorem dX4_reversing_34 : decode cX4_reversing 34 = .ok (.iload_n 1, 1) := dk_27 (dk_at dksX4_reversing_1 11 rfl rfl)
theorem dX4_reversing_35 : decode cX4_reversing 35 = .ok (.iload 4, 2) := dk_21 4 (dk_at dksX4_reversing_1 12 rfl rfl)
theorem dX4_reversing_37 : decode cX4_reversing 37 = .ok (.invokevirtual 192, 3) := dk_182 0 192 (dk_at dksX4_reversing_1 14 rfl rfl)
theorem dX4_reversing_40 : decode cX4_reversing 40 = .ok (.goto 10, 3) := dk_167 0 10 (dk_at dksX4_reversing_1 17 rfl rfl)
theorem dX4_reversing_43 : decode cX4_reversing 43 = .ok (.aload_n 0, 1) := dk_42 (dk_at dksX4_reversing_1 20 rfl rfl)
theorem dX4_reversing_44 : decode cX4_reversing 44 = .ok (.iload_n 1, 1) := dk_27 (dk_at dksX4_reversing_1 21 rfl rfl)
theorem dX4_reversing_45 : decode cX4_reversing 45 = .ok (.iload 4, 2) := dk_21 4 (dk_at dksX4_reversing_1 22 rfl rfl)
theorem dX4_reversing_47 : decode cX4_reversing 47 = .ok (.invokevirtual 184, 3) := dk_182 0 184 (dk_at dksX4_reversing_2 0 rfl rfl)
theorem dX4_reversing_50 : decode cX4_reversing 50 = .ok (.istore 5, 2) := dk_54 5 (dk_at dksX4_reversing_2 3 rfl rfl)
theorem dX4_reversing_52 : decode cX4_reversing 52 = .ok (.iload_n 2, 1) := dk_28 (dk_at dksX4_reversing_2 5 rfl rfl)
theorem dX4_reversing_53 : decode cX4_reversing 53 = .ok (.ifCond .eq 16, 3) := dk_153 0 16 (dk_at dksX4_reversing_2 6 rfl rfl)
theorem dX4_reversing_56 : decode cX4_reversing 56 = .ok (.aload_n 0, 1) := dk_42 (dk_at dksX4_reversing_2 9 rfl rfl)
theorem dX4_reversing_57 : decode cX4_reversing 57 = .ok (.getfield 61, 3) := dk_180 0 61 (dk_at dksX4_reversing_2 10 rfl rfl)
theorem dX4_reversing_60 : decode cX4_reversing 60 = .ok (.iload 5, 2) := dk_21 5 (dk_at dksX4_reversing_2 13 rfl rfl)
theorem dX4_reversing_62 : decode cX4_reversing 62 = .ok (.baload, 1) := dk_51 (dk_at dksX4_reversing_2 15 rfl rfl)
theorem dX4_reversing_63 : decode cX4_reversing 63 = .ok (.ifCond .eq 19, 3) := dk_153 0 19 (dk_at dksX4_reversing_2 16 rfl rfl)
theorem dX4_reversing_66 : decode cX4_reversing 66 = .ok (.goto 13, 3) := dk_167 0 13 (dk_at dksX4_reversing_2 19 rfl rfl)
theorem dX4_reversing_69 : decode cX4_reversing 69 = .ok (.aload_n 0, 1) := dk_42 (dk_at dksX4_reversing_2 22 rfl rfl)
theorem dX4_reversing_70 : decode cX4_reversing 70 = .ok (.getfield 58, 3) := dk_180 0 58 (dk_at dksX4_reversing_3 0 rfl rfl)
theorem dX4_reversing_73 : decode cX4_reversing 73 = .ok (.iload 5, 2) := dk_21 5 (dk_at dksX4_reversing_3 3 rfl rfl)
theorem dX4_reversing_75 : decode cX4_reversing 75 = .ok (.baload, 1) := dk_51 (dk_at dksX4_reversing_3 5 rfl rfl)
theorem dX4_reversing_76 : decode cX4_reversing 76 = .ok (.ifCond .eq 6, 3) := dk_153 0 6 (dk_at dksX4_reversing_3 6 rfl rfl)
theorem dX4_reversing_79 : decode cX4_reversing 79 = .ok (.iload 5, 2) := dk_21 5 (dk_at dksX4_reversing_3 9 rfl rfl)
theorem dX4_reversing_81 : decode cX4_reversing 81 = .ok (.ireturn, 1) := dk_172 (dk_at dksX4_reversing_3 11 rfl rfl)
theorem dX4_reversing_82 : decode cX4_reversing 82 = .ok (.iinc 4 1, 3) := dk_132 4 1 (dk_at dksX4_reversing_3 12 rfl rfl)
theorem dX4_reversing_85 : decode cX4_reversing 85 = .ok (.goto (-62), 3) := dk_167 255 194 (dk_at dksX4_reversing_3 15 rfl rfl)
theorem dX4_reversing_88 : decode cX4_reversing 88 = .ok (.ldc 195, 2) := dk_18 195 (dk_at dksX4_reversing_3 18 rfl rfl)
theorem dX4_reversing_90 : decode cX4_reversing 90 = .ok (.ireturn, 1) := dk_172 (dk_at dksX4_reversing_3 20 rfl rfl)
abbrev cX4_isDominated : ByteArray := prog_18_method_19_code
def yX4_isDominated : MethodName := ⟨RX4, "isDominated", "(IZ)Z"⟩
def dkwX4_isDominated_3 : List UInt8 := [167, 255, 191, 29, 172]
abbrev dktX4_isDominated_3 : List UInt8 := dkwX4_isDominated_3 ++ []
def dkwX4_isDominated_2 : List UInt8 := [167, 0, 13, 42, 21, 4, 27, 182, 0, 188, 153, 0, 7, 4, 167, 0, 4, 3, 62, 132, 4, 1]
abbrev dktX4_isDominated_2 : List UInt8 := dkwX4_isDominated_2 ++ dktX4_isDominated_3
def dkwX4_isDominated_1 : List UInt8 := [51, 153, 0, 40, 21, 4, 27, 159, 0, 34, 28, 153, 0, 16, 42, 27, 21, 4, 182, 0, 188, 153, 0, 20]
abbrev dktX4_isDominated_1 : List UInt8 := dkwX4_isDominated_1 ++ dktX4_isDominated_2
def dkwX4_isDominated_0 : List UInt8 := [3, 62, 3, 54, 4, 21, 4, 42, 180, 0, 160, 162, 0, 62, 29, 154, 0, 46, 42, 180, 0, 64, 21, 4]
abbrev dktX4_isDominated_0 : List UInt8 := dkwX4_isDominated_0 ++ dktX4_isDominated_1
theorem dksX4_isDominated_0 : cX4_isDominated.data.toList.drop 0 = dktX4_isDominated_0 := by decide +kernel
theorem dksX4_isDominated_1 : cX4_isDominated.data.toList.drop 24 = dktX4_isDominated_1 := dk_seg dksX4_isDominated_0 24 rfl rfl
theorem dksX4_isDominated_2 : cX4_isDominated.data.toList.drop 48 = dktX4_isDominated_2 := dk_seg dksX4_isDominated_1 24 rfl rfl
theorem dksX4_isDominated_3 : cX4_isDominated.data.toList.drop 70 = dktX4_isDominated_3 := dk_seg dksX4_isDominated_2 22 rfl rfl
theorem dX4_isDominated_0 : decode cX4_isDominated 0 = .ok (.iconst 0, 1) := dk_3 (dk_at dksX4_isDominated_0 0 rfl rfl)
theorem dX4_isDominated_1 : decode cX4_isDominated 1 = .ok (.istore_n 3, 1) := dk_62 (dk_at dksX4_isDominated_0 1 rfl rfl)
theorem dX4_isDominated_2 : decode cX4_isDominated 2 = .ok (.iconst 0, 1) := dk_3 (dk_at dksX4_isDominated_0 2 rfl rfl)
theorem dX4_isDominated_3 : decode cX4_isDominated 3 = .ok (.istore 4, 2) := dk_54 4 (dk_at dksX4_isDominated_0 3 rfl rfl)
theorem dX4_isDominated_5 : decode cX4_isDominated 5 = .ok (.iload 4, 2) := dk_21 4 (dk_at dksX4_isDominated_0 5 rfl rfl)
theorem dX4_isDominated_7 : decode cX4_isDominated 7 = .ok (.aload_n 0, 1) := dk_42 (dk_at dksX4_isDominated_0 7 rfl rfl)
theorem dX4_isDominated_8 : decode cX4_isDominated 8 = .ok (.getfield 160, 3) := dk_180 0 160 (dk_at dksX4_isDominated_0 8 rfl rfl)
theorem dX4_isDominated_11 : decode cX4_isDominated 11 = .ok (.if_icmp .ge 62, 3) := dk_162 0 62 (dk_at dksX4_isDominated_0 11 rfl rfl)
theorem dX4_isDominated_14 : decode cX4_isDominated 14 = .ok (.iload_n 3, 1) := dk_29 (dk_at dksX4_isDominated_0 14 rfl rfl)
theorem dX4_isDominated_15 : decode cX4_isDominated 15 = .ok (.ifCond .ne 46, 3) := dk_154 0 46 (dk_at dksX4_isDominated_0 15 rfl rfl)
theorem dX4_isDominated_18 : decode cX4_isDominated 18 = .ok (.aload_n 0, 1) := dk_42 (dk_at dksX4_isDominated_0 18 rfl rfl)
theorem dX4_isDominated_19 : decode cX4_isDominated 19 = .ok (.getfield 64, 3) := dk_180 0 64 (dk_at dksX4_isDominated_0 19 rfl rfl)
theorem dX4_isDominated_22 : decode cX4_isDominated 22 = .ok (.iload 4, 2) := dk_21 4 (dk_at dksX4_isDominated_0 22 rfl rfl)
theorem dX4_isDominated_24 : decode cX4_isDominated 24 = .ok (.baload, 1) := dk_51 (dk_at dksX4_isDominated_1 0 rfl rfl)
theorem dX4_isDominated_25 : decode cX4_isDominated 25 = .ok (.ifCond .eq 40, 3) := dk_153 0 40 (dk_at dksX4_isDominated_1 1 rfl rfl)
theorem dX4_isDominated_28 : decode cX4_isDominated 28 = .ok (.iload 4, 2) := dk_21 4 (dk_at dksX4_isDominated_1 4 rfl rfl)
theorem dX4_isDominated_30 : decode cX4_isDominated 30 = .ok (.iload_n 1, 1) := dk_27 (dk_at dksX4_isDominated_1 6 rfl rfl)
theorem dX4_isDominated_31 : decode cX4_isDominated 31 = .ok (.if_icmp .eq 34, 3) := dk_159 0 34 (dk_at dksX4_isDominated_1 7 rfl rfl)
theorem dX4_isDominated_34 : decode cX4_isDominated 34 = .ok (.iload_n 2, 1) := dk_28 (dk_at dksX4_isDominated_1 10 rfl rfl)
theorem dX4_isDominated_35 : decode cX4_isDominated 35 = .ok (.ifCond .eq 16, 3) := dk_153 0 16 (dk_at dksX4_isDominated_1 11 rfl rfl)
theorem dX4_isDominated_38 : decode cX4_isDominated 38 = .ok (.aload_n 0, 1) := dk_42 (dk_at dksX4_isDominated_1 14 rfl rfl)
theorem dX4_isDominated_39 : decode cX4_isDominated 39 = .ok (.iload_n 1, 1) := dk_27 (dk_at dksX4_isDominated_1 15 rfl rfl)
theorem dX4_isDominated_40 : decode cX4_isDominated 40 = .ok (.iload 4, 2) := dk_21 4 (dk_at dksX4_isDominated_1 16 rfl rfl)
theorem dX4_isDominated_42 : decode cX4_isDominated 42 = .ok (.invokevirtual 188, 3) := dk_182 0 188 (dk_at dksX4_isDominated_1 18 rfl rfl)
theorem dX4_isDominated_45 : decode cX4_isDominated 45 = .ok (.ifCond .eq 20, 3) := dk_153 0 20 (dk_at dksX4_isDominated_1 21 rfl rfl)
theorem dX4_isDominated_48 : decode cX4_isDominated 48 = .ok (.goto 13, 3) := dk_167 0 13 (dk_at dksX4_isDominated_2 0 rfl rfl)
theorem dX4_isDominated_51 : decode cX4_isDominated 51 = .ok (.aload_n 0, 1) := dk_42 (dk_at dksX4_isDominated_2 3 rfl rfl)
theorem dX4_isDominated_52 : decode cX4_isDominated 52 = .ok (.iload 4, 2) := dk_21 4 (dk_at dksX4_isDominated_2 4 rfl rfl)
theorem dX4_isDominated_54 : decode cX4_isDominated 54 = .ok (.iload_n 1, 1) := dk_27 (dk_at dksX4_isDominated_2 6 rfl rfl)
theorem dX4_isDominated_55 : decode cX4_isDominated 55 = .ok (.invokevirtual 188, 3) := dk_182 0 188 (dk_at dksX4_isDominated_2 7 rfl rfl)
theorem dX4_isDominated_58 : decode cX4_isDominated 58 = .ok (.ifCond .eq 7, 3) := dk_153 0 7 (dk_at dksX4_isDominated_2 10 rfl rfl)
theorem dX4_isDominated_61 : decode cX4_isDominated 61 = .ok (.iconst 1, 1) := dk_4 (dk_at dksX4_isDominated_2 13 rfl rfl)
theorem dX4_isDominated_62 : decode cX4_isDominated 62 = .ok (.goto 4, 3) := dk_167 0 4 (dk_at dksX4_isDominated_2 14 rfl rfl)
theorem dX4_isDominated_65 : decode cX4_isDominated 65 = .ok (.iconst 0, 1) := dk_3 (dk_at dksX4_isDominated_2 17 rfl rfl)
theorem dX4_isDominated_66 : decode cX4_isDominated 66 = .ok (.istore_n 3, 1) := dk_62 (dk_at dksX4_isDominated_2 18 rfl rfl)
theorem dX4_isDominated_67 : decode cX4_isDominated 67 = .ok (.iinc 4 1, 3) := dk_132 4 1 (dk_at dksX4_isDominated_2 19 rfl rfl)
theorem dX4_isDominated_70 : decode cX4_isDominated 70 = .ok (.goto (-65), 3) := dk_167 255 191 (dk_at dksX4_isDominated_3 0 rfl rfl)
theorem dX4_isDominated_73 : decode cX4_isDominated 73 = .ok (.iload_n 3, 1) := dk_29 (dk_at dksX4_isDominated_3 3 rfl rfl)
theorem dX4_isDominated_74 : decode cX4_isDominated 74 = .ok (.ireturn, 1) := dk_172 (dk_at dksX4_isDominated_3 4 rfl rfl)
abbrev cX4_intern : ByteArray := prog_18_method_12_code
def yX4_intern : MethodName := ⟨RX4, "intern", "()I"⟩
def dkwX4_intern_9 : List UInt8 := [27, 172]
abbrev dktX4_intern_9 : List UInt8 := dkwX4_intern_9 ++ []
def dkwX4_intern_8 : List UInt8 := [46, 4, 96, 167, 0, 9, 42, 180, 0, 40, 27, 46, 79, 132, 2, 1, 167, 255, 153, 42, 27, 182, 0, 180]
abbrev dktX4_intern_8 : List UInt8 := dkwX4_intern_8 ++ dktX4_intern_9
def dkwX4_intern_7 : List UInt8 := [180, 0, 40, 27, 42, 180, 0, 40, 29, 46, 42, 180, 0, 40, 27, 46, 161, 0, 14, 42, 180, 0, 40, 29]
abbrev dktX4_intern_7 : List UInt8 := dkwX4_intern_7 ++ dktX4_intern_8
def dkwX4_intern_6 : List UInt8 := [100, 46, 62, 42, 180, 0, 44, 42, 180, 0, 163, 29, 79, 42, 89, 180, 0, 163, 4, 96, 181, 0, 163, 42]
abbrev dktX4_intern_6 : List UInt8 := dkwX4_intern_6 ++ dktX4_intern_7
def dkwX4_intern_5 : List UInt8 := [180, 0, 166, 162, 0, 12, 42, 180, 0, 52, 28, 46, 167, 0, 14, 42, 180, 0, 55, 28, 42, 180, 0, 166]
abbrev dktX4_intern_5 : List UInt8 := dkwX4_intern_5 ++ dktX4_intern_6
def dkwX4_intern_4 : List UInt8 := [180, 0, 40, 27, 3, 79, 3, 61, 28, 42, 180, 0, 166, 42, 180, 0, 169, 96, 162, 0, 96, 28, 42]
abbrev dktX4_intern_4 : List UInt8 := dkwX4_intern_4 ++ dktX4_intern_5
def dkwX4_intern_3 : List UInt8 := [79, 42, 180, 0, 34, 27, 42, 180, 0, 166, 79, 42, 180, 0, 37, 27, 42, 180, 0, 169, 79, 42]
abbrev dktX4_intern_3 : List UInt8 := dkwX4_intern_3 ++ dktX4_intern_4
def dkwX4_intern_2 : List UInt8 := [42, 180, 0, 160, 60, 42, 89, 180, 0, 160, 4, 96, 181, 0, 160, 42, 180, 0, 31, 27, 42, 180, 0, 163]
abbrev dktX4_intern_2 : List UInt8 := dkwX4_intern_2 ++ dktX4_intern_3
def dkwX4_intern_1 : List UInt8 := [27, 42, 180, 0, 160, 162, 0, 19, 42, 27, 182, 0, 176, 153, 0, 5, 27, 172, 132, 1, 1, 167, 255, 235]
abbrev dktX4_intern_1 : List UInt8 := dkwX4_intern_1 ++ dktX4_intern_2
def dkwX4_intern_0 : List UInt8 := [42, 180, 0, 52, 42, 180, 0, 166, 184, 0, 172, 42, 180, 0, 55, 42, 180, 0, 169, 184, 0, 172, 3, 60]
abbrev dktX4_intern_0 : List UInt8 := dkwX4_intern_0 ++ dktX4_intern_1
theorem dksX4_intern_0 : cX4_intern.data.toList.drop 0 = dktX4_intern_0 := by decide +kernel
theorem dksX4_intern_1 : cX4_intern.data.toList.drop 24 = dktX4_intern_1 := dk_seg dksX4_intern_0 24 rfl rfl
theorem dksX4_intern_2 : cX4_intern.data.toList.drop 48 = dktX4_intern_2 := dk_seg dksX4_intern_1 24 rfl rfl
theorem dksX4_intern_3 : cX4_intern.data.toList.drop 72 = dktX4_intern_3 := dk_seg dksX4_intern_2 24 rfl rfl
theorem dksX4_intern_4 : cX4_intern.data.toList.drop 94 = dktX4_intern_4 := dk_seg dksX4_intern_3 22 rfl rfl
theorem dksX4_intern_5 : cX4_intern.data.toList.drop 117 = dktX4_intern_5 := dk_seg dksX4_intern_4 23 rfl rfl
theorem dksX4_intern_6 : cX4_intern.data.toList.drop 141 = dktX4_intern_6 := dk_seg dksX4_intern_5 24 rfl rfl
theorem dksX4_intern_7 : cX4_intern.data.toList.drop 165 = dktX4_intern_7 := dk_seg dksX4_intern_6 24 rfl rfl
theorem dksX4_intern_8 : cX4_intern.data.toList.drop 189 = dktX4_intern_8 := dk_seg dksX4_intern_7 24 rfl rfl
theorem dksX4_intern_9 : cX4_intern.data.toList.drop 213 = dktX4_intern_9 := dk_seg dksX4_intern_8 24 rfl rfl
theorem dX4_intern_0 : decode cX4_intern 0 = .ok (.aload_n 0, 1) := dk_42 (dk_at dksX4_intern_0 0 rfl rfl)
theorem dX4_intern_1 : decode cX4_intern 1 = .ok (.getfield 52, 3) := dk_180 0 52 (dk_at dksX4_intern_0 1 rfl rfl)
theorem dX4_intern_4 : decode cX4_intern 4 = .ok (.aload_n 0, 1) := dk_42 (dk_at dksX4_intern_0 4 rfl rfl)
theorem dX4_intern_5 : decode cX4_intern 5 = .ok (.getfield 166, 3) := dk_180 0 166 (dk_at dksX4_intern_0 5 rfl rfl)
theorem dX4_intern_8 : decode cX4_intern 8 = .ok (.invokestatic 172, 3) := dk_184 0 172 (dk_at dksX4_intern_0 8 rfl rfl)
theorem dX4_intern_11 : decode cX4_intern 11 = .ok (.aload_n 0, 1) := dk_42 (dk_at dksX4_intern_0 11 rfl rfl)
theorem dX4_intern_12 : decode cX4_intern 12 = .ok (.getfield 55, 3) := dk_180 0 55 (dk_at dksX4_intern_0 12 rfl rfl)
theorem dX4_intern_15 : decode cX4_intern 15 = .ok (.aload_n 0, 1) := dk_42 (dk_at dksX4_intern_0 15 rfl rfl)
theorem dX4_intern_16 : decode cX4_intern 16 = .ok (.getfield 169, 3) := dk_180 0 169 (dk_at dksX4_intern_0 16 rfl rfl)
theorem dX4_intern_19 : decode cX4_intern 19 = .ok (.invokestatic 172, 3) := dk_184 0 172 (dk_at dksX4_intern_0 19 rfl rfl)
theorem dX4_intern_22 : decode cX4_intern 22 = .ok (.iconst 0, 1) := dk_3 (dk_at dksX4_intern_0 22 rfl rfl)
theorem dX4_intern_23 : decode cX4_intern 23 = .ok (.istore_n 1, 1) := dk_60 (dk_at dksX4_intern_0 23 rfl rfl)
theorem dX4_intern_24 : decode cX4_intern 24 = .ok (.iload_n 1, 1) := dk_27 (dk_at dksX4_intern_1 0 rfl rfl)
theorem dX4_intern_25 : decode cX4_intern 25 = .ok (.aload_n 0, 1) := dk_42 (dk_at dksX4_intern_1 1 rfl rfl)
theorem dX4_intern_26 : decode cX4_intern 26 = .ok (.getfield 160, 3) := dk_180 0 160 (dk_at dksX4_intern_1 2 rfl rfl)
theorem dX4_intern_29 : decode cX4_intern 29 = .ok (.if_icmp .ge 19, 3) := dk_162 0 19 (dk_at dksX4_intern_1 5 rfl rfl)
theorem dX4_intern_32 : decode cX4_intern 32 = .ok (.aload_n 0, 1) := dk_42 (dk_at dksX4_intern_1 8 rfl rfl)
theorem dX4_intern_33 : decode cX4_intern 33 = .ok (.iload_n 1, 1) := dk_27 (dk_at dksX4_intern_1 9 rfl rfl)
theorem dX4_intern_34 : decode cX4_intern 34 = .ok (.invokevirtual 176, 3) := dk_182 0 176 (dk_at dksX4_intern_1 10 rfl rfl)
theorem dX4_intern_37 : decode cX4_intern 37 = .ok (.ifCond .eq 5, 3) := dk_153 0 5 (dk_at dksX4_intern_1 13 rfl rfl)
theorem dX4_intern_40 : decode cX4_intern 40 = .ok (.iload_n 1, 1) := dk_27 (dk_at dksX4_intern_1 16 rfl rfl)
theorem dX4_intern_41 : decode cX4_intern 41 = .ok (.ireturn, 1) := dk_172 (dk_at dksX4_intern_1 17 rfl rfl)
theorem dX4_intern_42 : decode cX4_intern 42 = .ok (.iinc 1 1, 3) := dk_132 1 1 (dk_at dksX4_intern_1 18 rfl rfl)
theorem dX4_intern_45 : decode cX4_intern 45 = .ok (.goto (-21), 3) := dk_167 255 235 (dk_at dksX4_intern_1 21 rfl rfl)
theorem dX4_intern_48 : decode cX4_intern 48 = .ok (.aload_n 0, 1) := dk_42 (dk_at dksX4_intern_2 0 rfl rfl)
theorem dX4_intern_49 : decode cX4_intern 49 = .ok (.getfield 160, 3) := dk_180 0 160 (dk_at dksX4_intern_2 1 rfl rfl)
theorem dX4_intern_52 : decode cX4_intern 52 = .ok (.istore_n 1, 1) := dk_60 (dk_at dksX4_intern_2 4 rfl rfl)
theorem dX4_intern_53 : decode cX4_intern 53 = .ok (.aload_n 0, 1) := dk_42 (dk_at dksX4_intern_2 5 rfl rfl)
theorem dX4_intern_54 : decode cX4_intern 54 = .ok (.dup, 1) := dk_89 (dk_at dksX4_intern_2 6 rfl rfl)
theorem dX4_intern_55 : decode cX4_intern 55 = .ok (.getfield 160, 3) := dk_180 0 160 (dk_at dksX4_intern_2 7 rfl rfl)
theorem dX4_intern_58 : decode cX4_intern 58 = .ok (.iconst 1, 1) := dk_4 (dk_at dksX4_intern_2 10 rfl rfl)
theorem dX4_intern_59 : decode cX4_intern 59 = .ok (.iadd, 1) := dk_96 (dk_at dksX4_intern_2 11 rfl rfl)
theorem dX4_intern_60 : decode cX4_intern 60 = .ok (.putfield 160, 3) := dk_181 0 160 (dk_at dksX4_intern_2 12 rfl rfl)
theorem dX4_intern_63 : decode cX4_intern 63 = .ok (.aload_n 0, 1) := dk_42 (dk_at dksX4_intern_2 15 rfl rfl)
theorem dX4_intern_64 : decode cX4_intern 64 = .ok (.getfield 31, 3) := dk_180 0 31 (dk_at dksX4_intern_2 16 rfl rfl)
theorem dX4_intern_67 : decode cX4_intern 67 = .ok (.iload_n 1, 1) := dk_27 (dk_at dksX4_intern_2 19 rfl rfl)
theorem dX4_intern_68 : decode cX4_intern 68 = .ok (.aload_n 0, 1) := dk_42 (dk_at dksX4_intern_2 20 rfl rfl)
theorem dX4_intern_69 : decode cX4_intern 69 = .ok (.getfield 163, 3) := dk_180 0 163 (dk_at dksX4_intern_2 21 rfl rfl)
theorem dX4_intern_72 : decode cX4_intern 72 = .ok (.iastore, 1) := dk_79 (dk_at dksX4_intern_3 0 rfl rfl)
theorem dX4_intern_73 : decode cX4_intern 73 = .ok (.aload_n 0, 1) := dk_42 (dk_at dksX4_intern_3 1 rfl rfl)
theorem dX4_intern_74 : decode cX4_intern 74 = .ok (.getfield 34, 3) := dk_180 0 34 (dk_at dksX4_intern_3 2 rfl rfl)
theorem dX4_intern_77 : decode cX4_intern 77 = .ok (.iload_n 1, 1) := dk_27 (dk_at dksX4_intern_3 5 rfl rfl)
theorem dX4_intern_78 : decode cX4_intern 78 = .ok (.aload_n 0, 1) := dk_42 (dk_at dksX4_intern_3 6 rfl rfl)
theorem dX4_intern_79 : decode cX4_intern 79 = .ok (.getfield 166, 3) := dk_180 0 166 (dk_at dksX4_intern_3 7 rfl rfl)
theorem dX4_intern_82 : decode cX4_intern 82 = .ok (.iastore, 1) := dk_79 (dk_at dksX4_intern_3 10 rfl rfl)
theorem dX4_intern_83 : decode cX4_intern 83 = .ok (.aload_n 0, 1) := dk_42 (dk_at dksX4_intern_3 11 rfl rfl)
theorem dX4_intern_84 : decode cX4_intern 84 = .ok (.getfield 37, 3) := dk_180 0 37 (dk_at dksX4_intern_3 12 rfl rfl)
theorem dX4_intern_87 : decode cX4_intern 87 = .ok (.iload_n 1, 1) := dk_27 (dk_at dksX4_intern_3 15 rfl rfl)
theorem dX4_intern_88 : decode cX4_intern 88 = .ok (.aload_n 0, 1) := dk_42 (dk_at dksX4_intern_3 16 rfl rfl)
theorem dX4_intern_89 : decode cX4_intern 89 = .ok (.getfield 169, 3) := dk_180 0 169 (dk_at dksX4_intern_3 17 rfl rfl)
theorem dX4_intern_92 : decode cX4_intern 92 = .ok (.iastore, 1) := dk_79 (dk_at dksX4_intern_3 20 rfl rfl)
theorem dX4_intern_93 : decode cX4_intern 93 = .ok (.aload_n 0, 1) := dk_42 (dk_at dksX4_intern_3 21 rfl rfl)
theorem dX4_intern_94 : decode cX4_intern 94 = .ok (.getfield 40, 3) := dk_180 0 40 (dk_at dksX4_intern_4 0 rfl rfl)
theorem dX4_intern_97 : decode cX4_intern 97 = .ok (.iload_n 1, 1) := dk_27 (dk_at dksX4_intern_4 3 rfl rfl)
theorem dX4_intern_98 : decode cX4_intern 98 = .ok (.iconst 0, 1) := dk_3 (dk_at dksX4_intern_4 4 rfl rfl)
theorem dX4_intern_99 : decode cX4_intern 99 = .ok (.iastore, 1) := dk_79 (dk_at dksX4_intern_4 5 rfl rfl)
theorem dX4_intern_100 : decode cX4_intern 100 = .ok (.iconst 0, 1) := dk_3 (dk_at dksX4_intern_4 6 rfl rfl)
theorem dX4_intern_101 : decode cX4_intern 101 = .ok (.istore_n 2, 1) := dk_61 (dk_at dksX4_intern_4 7 rfl rfl)
theorem dX4_intern_102 : decode cX4_intern 102 = .ok (.iload_n 2, 1) := dk_28 (dk_at dksX4_intern_4 8 rfl rfl)
theorem dX4_intern_103 : decode cX4_intern 103 = .ok (.aload_n 0, 1) := dk_42 (dk_at dksX4_intern_4 9 rfl rfl)
theorem dX4_intern_104 : decode cX4_intern 104 = .ok (.getfield 166, 3) := dk_180 0 166 (dk_at dksX4_intern_4 10 rfl rfl)
theorem dX4_intern_107 : decode cX4_intern 107 = .ok (.aload_n 0, 1) := dk_42 (dk_at dksX4_intern_4 13 rfl rfl)
theorem dX4_intern_108 : decode cX4_intern 108 = .ok (.getfield 169, 3) := dk_180 0 169 (dk_at dksX4_intern_4 14 rfl rfl)
theorem dX4_intern_111 : decode cX4_intern 111 = .ok (.iadd, 1) := dk_96 (dk_at dksX4_intern_4 17 rfl rfl)
theorem dX4_intern_112 : decode cX4_intern 112 = .ok (.if_icmp .ge 96, 3) := dk_162 0 96 (dk_at dksX4_intern_4 18 rfl rfl)
theorem dX4_intern_115 : decode cX4_intern 115 = .ok (.iload_n 2, 1) := dk_28 (dk_at dksX4_intern_4 21 rfl rfl)
theorem dX4_intern_116 : decode cX4_intern 116 = .ok (.aload_n 0, 1) := dk_42 (dk_at dksX4_intern_4 22 rfl rfl)
theorem dX4_intern_117 : decode cX4_intern 117 = .ok (.getfield 166, 3) := dk_180 0 166 (dk_at dksX4_intern_5 0 rfl rfl)
theorem dX4_intern_120 : decode cX4_intern 120 = .ok (.if_icmp .ge 12, 3) := dk_162 0 12 (dk_at dksX4_intern_5 3 rfl rfl)
theorem dX4_intern_123 : decode cX4_intern 123 = .ok (.aload_n 0, 1) := dk_42 (dk_at dksX4_intern_5 6 rfl rfl)
theorem dX4_intern_124 : decode cX4_intern 124 = .ok (.getfield 52, 3) := dk_180 0 52 (dk_at dksX4_intern_5 7 rfl rfl)
theorem dX4_intern_127 : decode cX4_intern 127 = .ok (.iload_n 2, 1) := dk_28 (dk_at dksX4_intern_5 10 rfl rfl)
theorem dX4_intern_128 : decode cX4_intern 128 = .ok (.iaload, 1) := dk_46 (dk_at dksX4_intern_5 11 rfl rfl)
theorem dX4_intern_129 : decode cX4_intern 129 = .ok (.goto 14, 3) := dk_167 0 14 (dk_at dksX4_intern_5 12 rfl rfl)
theorem dX4_intern_132 : decode cX4_intern 132 = .ok (.aload_n 0, 1) := dk_42 (dk_at dksX4_intern_5 15 rfl rfl)
theorem dX4_intern_133 : decode cX4_intern 133 = .ok (.getfield 55, 3) := dk_180 0 55 (dk_at dksX4_intern_5 16 rfl rfl)
theorem dX4_intern_136 : decode cX4_intern 136 = .ok (.iload_n 2, 1) := dk_28 (dk_at dksX4_intern_5 19 rfl rfl)
theorem dX4_intern_137 : decode cX4_intern 137 = .ok (.aload_n 0, 1) := dk_42 (dk_at dksX4_intern_5 20 rfl rfl)
theorem dX4_intern_138 : decode cX4_intern 138 = .ok (.getfield 166, 3) := dk_180 0 166 (dk_at dksX4_intern_5 21 rfl rfl)
theorem dX4_intern_141 : decode cX4_intern 141 = .ok (.isub, 1) := dk_100 (dk_at dksX4_intern_6 0 rfl rfl)
theorem dX4_intern_142 : decode cX4_intern 142 = .ok (.iaload, 1) := dk_46 (dk_at dksX4_intern_6 1 rfl rfl)
theorem dX4_intern_143 : decode cX4_intern 143 = .ok (.istore_n 3, 1) := dk_62 (dk_at dksX4_intern_6 2 rfl rfl)
theorem dX4_intern_144 : decode cX4_intern 144 = .ok (.aload_n 0, 1) := dk_42 (dk_at dksX4_intern_6 3 rfl rfl)
theorem dX4_intern_145 : decode cX4_intern 145 = .ok (.getfield 44, 3) := dk_180 0 44 (dk_at dksX4_intern_6 4 rfl rfl)
theorem dX4_intern_148 : decode cX4_intern 148 = .ok (.aload_n 0, 1) := dk_42 (dk_at dksX4_intern_6 7 rfl rfl)
theorem dX4_intern_149 : decode cX4_intern 149 = .ok (.getfield 163, 3) := dk_180 0 163 (dk_at dksX4_intern_6 8 rfl rfl)
theorem dX4_intern_152 : decode cX4_intern 152 = .ok (.iload_n 3, 1) := dk_29 (dk_at dksX4_intern_6 11 rfl rfl)
theorem dX4_intern_153 : decode cX4_intern 153 = .ok (.iastore, 1) := dk_79 (dk_at dksX4_intern_6 12 rfl rfl)
theorem dX4_intern_154 : decode cX4_intern 154 = .ok (.aload_n 0, 1) := dk_42 (dk_at dksX4_intern_6 13 rfl rfl)
theorem dX4_intern_155 : decode cX4_intern 155 = .ok (.dup, 1) := dk_89 (dk_at dksX4_intern_6 14 rfl rfl)
theorem dX4_intern_156 : decode cX4_intern 156 = .ok (.getfield 163, 3) := dk_180 0 163 (dk_at dksX4_intern_6 15 rfl rfl)
theorem dX4_intern_159 : decode cX4_intern 159 = .ok (.iconst 1, 1) := dk_4 (dk_at dksX4_intern_6 18 rfl rfl)
theorem dX4_intern_160 : decode cX4_intern 160 = .ok (.iadd, 1) := dk_96 (dk_at dksX4_intern_6 19 rfl rfl)
theorem dX4_intern_161 : decode cX4_intern 161 = .ok (.putfield 163, 3) := dk_181 0 163 (dk_at dksX4_intern_6 20 rfl rfl)
theorem dX4_intern_164 : decode cX4_intern 164 = .ok (.aload_n 0, 1) := dk_42 (dk_at dksX4_intern_6 23 rfl rfl)
theorem dX4_intern_165 : decode cX4_intern 165 = .ok (.getfield 40, 3) := dk_180 0 40 (dk_at dksX4_intern_7 0 rfl rfl)
theorem dX4_intern_168 : decode cX4_intern 168 = .ok (.iload_n 1, 1) := dk_27 (dk_at dksX4_intern_7 3 rfl rfl)
theorem dX4_intern_169 : decode cX4_intern 169 = .ok (.aload_n 0, 1) := dk_42 (dk_at dksX4_intern_7 4 rfl rfl)
theorem dX4_intern_170 : decode cX4_intern 170 = .ok (.getfield 40, 3) := dk_180 0 40 (dk_at dksX4_intern_7 5 rfl rfl)
theorem dX4_intern_173 : decode cX4_intern 173 = .ok (.iload_n 3, 1) := dk_29 (dk_at dksX4_intern_7 8 rfl rfl)
theorem dX4_intern_174 : decode cX4_intern 174 = .ok (.iaload, 1) := dk_46 (dk_at dksX4_intern_7 9 rfl rfl)
theorem dX4_intern_175 : decode cX4_intern 175 = .ok (.aload_n 0, 1) := dk_42 (dk_at dksX4_intern_7 10 rfl rfl)
theorem dX4_intern_176 : decode cX4_intern 176 = .ok (.getfield 40, 3) := dk_180 0 40 (dk_at dksX4_intern_7 11 rfl rfl)
theorem dX4_intern_179 : decode cX4_intern 179 = .ok (.iload_n 1, 1) := dk_27 (dk_at dksX4_intern_7 14 rfl rfl)
theorem dX4_intern_180 : decode cX4_intern 180 = .ok (.iaload, 1) := dk_46 (dk_at dksX4_intern_7 15 rfl rfl)
theorem dX4_intern_181 : decode cX4_intern 181 = .ok (.if_icmp .lt 14, 3) := dk_161 0 14 (dk_at dksX4_intern_7 16 rfl rfl)
theorem dX4_intern_184 : decode cX4_intern 184 = .ok (.aload_n 0, 1) := dk_42 (dk_at dksX4_intern_7 19 rfl rfl)
theorem dX4_intern_185 : decode cX4_intern 185 = .ok (.getfield 40, 3) := dk_180 0 40 (dk_at dksX4_intern_7 20 rfl rfl)
theorem dX4_intern_188 : decode cX4_intern 188 = .ok (.iload_n 3, 1) := dk_29 (dk_at dksX4_intern_7 23 rfl rfl)
theorem dX4_intern_189 : decode cX4_intern 189 = .ok (.iaload, 1) := dk_46 (dk_at dksX4_intern_8 0 rfl rfl)
theorem dX4_intern_190 : decode cX4_intern 190 = .ok (.iconst 1, 1) := dk_4 (dk_at dksX4_intern_8 1 rfl rfl)
theorem dX4_intern_191 : decode cX4_intern 191 = .ok (.iadd, 1) := dk_96 (dk_at dksX4_intern_8 2 rfl rfl)
theorem dX4_intern_192 : decode cX4_intern 192 = .ok (.goto 9, 3) := dk_167 0 9 (dk_at dksX4_intern_8 3 rfl rfl)
theorem dX4_intern_195 : decode cX4_intern 195 = .ok (.aload_n 0, 1) := dk_42 (dk_at dksX4_intern_8 6 rfl rfl)
theorem dX4_intern_196 : decode cX4_intern 196 = .ok (.getfield 40, 3) := dk_180 0 40 (dk_at dksX4_intern_8 7 rfl rfl)
theorem dX4_intern_199 : decode cX4_intern 199 = .ok (.iload_n 1, 1) := dk_27 (dk_at dksX4_intern_8 10 rfl rfl)
theorem dX4_intern_200 : decode cX4_intern 200 = .ok (.iaload, 1) := dk_46 (dk_at dksX4_intern_8 11 rfl rfl)
theorem dX4_intern_201 : decode cX4_intern 201 = .ok (.iastore, 1) := dk_79 (dk_at dksX4_intern_8 12 rfl rfl)
theorem dX4_intern_202 : decode cX4_intern 202 = .ok (.iinc 2 1, 3) := dk_132 2 1 (dk_at dksX4_intern_8 13 rfl rfl)
theorem dX4_intern_205 : decode cX4_intern 205 = .ok (.goto (-103), 3) := dk_167 255 153 (dk_at dksX4_intern_8 16 rfl rfl)
theorem dX4_intern_208 : decode cX4_intern 208 = .ok (.aload_n 0, 1) := dk_42 (dk_at dksX4_intern_8 19 rfl rfl)
theorem dX4_intern_209 : decode cX4_intern 209 = .ok (.iload_n 1, 1) := dk_27 (dk_at dksX4_intern_8 20 rfl rfl)
theorem dX4_intern_210 : decode cX4_intern 210 = .ok (.invokevirtual 180, 3) := dk_182 0 180 (dk_at dksX4_intern_8 21 rfl rfl)
theorem dX4_intern_213 : decode cX4_intern 213 = .ok (.iload_n 1, 1) := dk_27 (dk_at dksX4_intern_9 0 rfl rfl)
theorem dX4_intern_214 : decode cX4_intern 214 = .ok (.ireturn, 1) := dk_172 (dk_at dksX4_intern_9 1 rfl rfl)
abbrev cX4_sort : ByteArray := prog_18_method_10_code
def yX4_sort : MethodName := ⟨RX4, "sort", "([II)V"⟩
def dkwX4_sort_2 : List UInt8 := [29, 79, 132, 2, 1, 167, 255, 205, 177]
abbrev dktX4_sort_2 : List UInt8 := dkwX4_sort_2 ++ []
def dkwX4_sort_1 : List UInt8 := [46, 29, 164, 0, 19, 42, 21, 4, 42, 21, 4, 4, 100, 46, 79, 132, 4, 255, 167, 255, 228, 42, 21, 4]
abbrev dktX4_sort_1 : List UInt8 := dkwX4_sort_1 ++ dktX4_sort_2
def dkwX4_sort_0 : List UInt8 := [4, 61, 28, 27, 162, 0, 52, 42, 28, 46, 62, 28, 54, 4, 21, 4, 158, 0, 29, 42, 21, 4, 4, 100]
abbrev dktX4_sort_0 : List UInt8 := dkwX4_sort_0 ++ dktX4_sort_1
theorem dksX4_sort_0 : cX4_sort.data.toList.drop 0 = dktX4_sort_0 := by decide +kernel
theorem dksX4_sort_1 : cX4_sort.data.toList.drop 24 = dktX4_sort_1 := dk_seg dksX4_sort_0 24 rfl rfl
theorem dksX4_sort_2 : cX4_sort.data.toList.drop 48 = dktX4_sort_2 := dk_seg dksX4_sort_1 24 rfl rfl
theorem dX4_sort_0 : decode cX4_sort 0 = .ok (.iconst 1, 1) := dk_4 (dk_at dksX4_sort_0 0 rfl rfl)
theorem dX4_sort_1 : decode cX4_sort 1 = .ok (.istore_n 2, 1) := dk_61 (dk_at dksX4_sort_0 1 rfl rfl)
theorem dX4_sort_2 : decode cX4_sort 2 = .ok (.iload_n 2, 1) := dk_28 (dk_at dksX4_sort_0 2 rfl rfl)
theorem dX4_sort_3 : decode cX4_sort 3 = .ok (.iload_n 1, 1) := dk_27 (dk_at dksX4_sort_0 3 rfl rfl)
theorem dX4_sort_4 : decode cX4_sort 4 = .ok (.if_icmp .ge 52, 3) := dk_162 0 52 (dk_at dksX4_sort_0 4 rfl rfl)
theorem dX4_sort_7 : decode cX4_sort 7 = .ok (.aload_n 0, 1) := dk_42 (dk_at dksX4_sort_0 7 rfl rfl)
theorem dX4_sort_8 : decode cX4_sort 8 = .ok (.iload_n 2, 1) := dk_28 (dk_at dksX4_sort_0 8 rfl rfl)
theorem dX4_sort_9 : decode cX4_sort 9 = .ok (.iaload, 1) := dk_46 (dk_at dksX4_sort_0 9 rfl rfl)
theorem dX4_sort_10 : decode cX4_sort 10 = .ok (.istore_n 3, 1) := dk_62 (dk_at dksX4_sort_0 10 rfl rfl)
theorem dX4_sort_11 : decode cX4_sort 11 = .ok (.iload_n 2, 1) := dk_28 (dk_at dksX4_sort_0 11 rfl rfl)
theorem dX4_sort_12 : decode cX4_sort 12 = .ok (.istore 4, 2) := dk_54 4 (dk_at dksX4_sort_0 12 rfl rfl)
theorem dX4_sort_14 : decode cX4_sort 14 = .ok (.iload 4, 2) := dk_21 4 (dk_at dksX4_sort_0 14 rfl rfl)
theorem dX4_sort_16 : decode cX4_sort 16 = .ok (.ifCond .le 29, 3) := dk_158 0 29 (dk_at dksX4_sort_0 16 rfl rfl)
theorem dX4_sort_19 : decode cX4_sort 19 = .ok (.aload_n 0, 1) := dk_42 (dk_at dksX4_sort_0 19 rfl rfl)
theorem dX4_sort_20 : decode cX4_sort 20 = .ok (.iload 4, 2) := dk_21 4 (dk_at dksX4_sort_0 20 rfl rfl)
theorem dX4_sort_22 : decode cX4_sort 22 = .ok (.iconst 1, 1) := dk_4 (dk_at dksX4_sort_0 22 rfl rfl)
theorem dX4_sort_23 : decode cX4_sort 23 = .ok (.isub, 1) := dk_100 (dk_at dksX4_sort_0 23 rfl rfl)
theorem dX4_sort_24 : decode cX4_sort 24 = .ok (.iaload, 1) := dk_46 (dk_at dksX4_sort_1 0 rfl rfl)
theorem dX4_sort_25 : decode cX4_sort 25 = .ok (.iload_n 3, 1) := dk_29 (dk_at dksX4_sort_1 1 rfl rfl)
theorem dX4_sort_26 : decode cX4_sort 26 = .ok (.if_icmp .le 19, 3) := dk_164 0 19 (dk_at dksX4_sort_1 2 rfl rfl)
theorem dX4_sort_29 : decode cX4_sort 29 = .ok (.aload_n 0, 1) := dk_42 (dk_at dksX4_sort_1 5 rfl rfl)
theorem dX4_sort_30 : decode cX4_sort 30 = .ok (.iload 4, 2) := dk_21 4 (dk_at dksX4_sort_1 6 rfl rfl)
theorem dX4_sort_32 : decode cX4_sort 32 = .ok (.aload_n 0, 1) := dk_42 (dk_at dksX4_sort_1 8 rfl rfl)
theorem dX4_sort_33 : decode cX4_sort 33 = .ok (.iload 4, 2) := dk_21 4 (dk_at dksX4_sort_1 9 rfl rfl)
theorem dX4_sort_35 : decode cX4_sort 35 = .ok (.iconst 1, 1) := dk_4 (dk_at dksX4_sort_1 11 rfl rfl)
theorem dX4_sort_36 : decode cX4_sort 36 = .ok (.isub, 1) := dk_100 (dk_at dksX4_sort_1 12 rfl rfl)
theorem dX4_sort_37 : decode cX4_sort 37 = .ok (.iaload, 1) := dk_46 (dk_at dksX4_sort_1 13 rfl rfl)
theorem dX4_sort_38 : decode cX4_sort 38 = .ok (.iastore, 1) := dk_79 (dk_at dksX4_sort_1 14 rfl rfl)
theorem dX4_sort_39 : decode cX4_sort 39 = .ok (.iinc 4 (-1), 3) := dk_132 4 255 (dk_at dksX4_sort_1 15 rfl rfl)
theorem dX4_sort_42 : decode cX4_sort 42 = .ok (.goto (-28), 3) := dk_167 255 228 (dk_at dksX4_sort_1 18 rfl rfl)
theorem dX4_sort_45 : decode cX4_sort 45 = .ok (.aload_n 0, 1) := dk_42 (dk_at dksX4_sort_1 21 rfl rfl)
theorem dX4_sort_46 : decode cX4_sort 46 = .ok (.iload 4, 2) := dk_21 4 (dk_at dksX4_sort_1 22 rfl rfl)
theorem dX4_sort_48 : decode cX4_sort 48 = .ok (.iload_n 3, 1) := dk_29 (dk_at dksX4_sort_2 0 rfl rfl)
theorem dX4_sort_49 : decode cX4_sort 49 = .ok (.iastore, 1) := dk_79 (dk_at dksX4_sort_2 1 rfl rfl)
theorem dX4_sort_50 : decode cX4_sort 50 = .ok (.iinc 2 1, 3) := dk_132 2 1 (dk_at dksX4_sort_2 2 rfl rfl)
theorem dX4_sort_53 : decode cX4_sort 53 = .ok (.goto (-51), 3) := dk_167 255 205 (dk_at dksX4_sort_2 5 rfl rfl)
theorem dX4_sort_56 : decode cX4_sort 56 = .ok (.return_, 1) := dk_177 (dk_at dksX4_sort_2 8 rfl rfl)
abbrev cX4_isNode : ByteArray := prog_18_method_11_code
def yX4_isNode : MethodName := ⟨RX4, "isNode", "(I)Z"⟩
def dkwX4_isNode_5 : List UInt8 := [180, 0, 55, 29, 46, 160, 0, 7, 4, 167, 0, 4, 3, 61, 132, 3, 1, 167, 255, 208, 28, 172]
abbrev dktX4_isNode_5 : List UInt8 := dkwX4_isNode_5 ++ []
def dkwX4_isNode_4 : List UInt8 := [153, 0, 42, 42, 180, 0, 44, 42, 180, 0, 31, 27, 46, 42, 180, 0, 166, 96, 29, 96, 46, 42]
abbrev dktX4_isNode_4 : List UInt8 := dkwX4_isNode_4 ++ dktX4_isNode_5
def dkwX4_isNode_3 : List UInt8 := [167, 0, 4, 3, 61, 132, 3, 1, 167, 255, 213, 3, 62, 29, 42, 180, 0, 169, 162, 0, 46, 28]
abbrev dktX4_isNode_3 : List UInt8 := dkwX4_isNode_3 ++ dktX4_isNode_4
def dkwX4_isNode_2 : List UInt8 := [180, 0, 44, 42, 180, 0, 31, 27, 46, 29, 96, 46, 42, 180, 0, 52, 29, 46, 160, 0, 7, 4]
abbrev dktX4_isNode_2 : List UInt8 := dkwX4_isNode_2 ++ dktX4_isNode_3
def dkwX4_isNode_1 : List UInt8 := [160, 0, 7, 4, 167, 0, 4, 3, 61, 3, 62, 29, 42, 180, 0, 166, 162, 0, 41, 28, 153, 0, 37, 42]
abbrev dktX4_isNode_1 : List UInt8 := dkwX4_isNode_1 ++ dktX4_isNode_2
def dkwX4_isNode_0 : List UInt8 := [42, 180, 0, 34, 27, 46, 42, 180, 0, 166, 160, 0, 20, 42, 180, 0, 37, 27, 46, 42, 180, 0, 169]
abbrev dktX4_isNode_0 : List UInt8 := dkwX4_isNode_0 ++ dktX4_isNode_1
theorem dksX4_isNode_0 : cX4_isNode.data.toList.drop 0 = dktX4_isNode_0 := by decide +kernel
theorem dksX4_isNode_1 : cX4_isNode.data.toList.drop 23 = dktX4_isNode_1 := dk_seg dksX4_isNode_0 23 rfl rfl
theorem dksX4_isNode_2 : cX4_isNode.data.toList.drop 47 = dktX4_isNode_2 := dk_seg dksX4_isNode_1 24 rfl rfl
theorem dksX4_isNode_3 : cX4_isNode.data.toList.drop 69 = dktX4_isNode_3 := dk_seg dksX4_isNode_2 22 rfl rfl
theorem dksX4_isNode_4 : cX4_isNode.data.toList.drop 91 = dktX4_isNode_4 := dk_seg dksX4_isNode_3 22 rfl rfl
theorem dksX4_isNode_5 : cX4_isNode.data.toList.drop 113 = dktX4_isNode_5 := dk_seg dksX4_isNode_4 22 rfl rfl
theorem dX4_isNode_0 : decode cX4_isNode 0 = .ok (.aload_n 0, 1) := dk_42 (dk_at dksX4_isNode_0 0 rfl rfl)
theorem dX4_isNode_1 : decode cX4_isNode 1 = .ok (.getfield 34, 3) := dk_180 0 34 (dk_at dksX4_isNode_0 1 rfl rfl)
theorem dX4_isNode_4 : decode cX4_isNode 4 = .ok (.iload_n 1, 1) := dk_27 (dk_at dksX4_isNode_0 4 rfl rfl)
theorem dX4_isNode_5 : decode cX4_isNode 5 = .ok (.iaload, 1) := dk_46 (dk_at dksX4_isNode_0 5 rfl rfl)
theorem dX4_isNode_6 : decode cX4_isNode 6 = .ok (.aload_n 0, 1) := dk_42 (dk_at dksX4_isNode_0 6 rfl rfl)
theorem dX4_isNode_7 : decode cX4_isNode 7 = .ok (.getfield 166, 3) := dk_180 0 166 (dk_at dksX4_isNode_0 7 rfl rfl)
theorem dX4_isNode_10 : decode cX4_isNode 10 = .ok (.if_icmp .ne 20, 3) := dk_160 0 20 (dk_at dksX4_isNode_0 10 rfl rfl)
theorem dX4_isNode_13 : decode cX4_isNode 13 = .ok (.aload_n 0, 1) := dk_42 (dk_at dksX4_isNode_0 13 rfl rfl)
theorem dX4_isNode_14 : decode cX4_isNode 14 = .ok (.getfield 37, 3) := dk_180 0 37 (dk_at dksX4_isNode_0 14 rfl rfl)
theorem dX4_isNode_17 : decode cX4_isNode 17 = .ok (.iload_n 1, 1) := dk_27 (dk_at dksX4_isNode_0 17 rfl rfl)
theorem dX4_isNode_18 : decode cX4_isNode 18 = .ok (.iaload, 1) := dk_46 (dk_at dksX4_isNode_0 18 rfl rfl)
theorem dX4_isNode_19 : decode cX4_isNode 19 = .ok (.aload_n 0, 1) := dk_42 (dk_at dksX4_isNode_0 19 rfl rfl)
theorem dX4_isNode_20 : decode cX4_isNode 20 = .ok (.getfield 169, 3) := dk_180 0 169 (dk_at dksX4_isNode_0 20 rfl rfl)
theorem dX4_isNode_23 : decode cX4_isNode 23 = .ok (.if_icmp .ne 7, 3) := dk_160 0 7 (dk_at dksX4_isNode_1 0 rfl rfl)
theorem dX4_isNode_26 : decode cX4_isNode 26 = .ok (.iconst 1, 1) := dk_4 (dk_at dksX4_isNode_1 3 rfl rfl)
theorem dX4_isNode_27 : decode cX4_isNode 27 = .ok (.goto 4, 3) := dk_167 0 4 (dk_at dksX4_isNode_1 4 rfl rfl)
theorem dX4_isNode_30 : decode cX4_isNode 30 = .ok (.iconst 0, 1) := dk_3 (dk_at dksX4_isNode_1 7 rfl rfl)
theorem dX4_isNode_31 : decode cX4_isNode 31 = .ok (.istore_n 2, 1) := dk_61 (dk_at dksX4_isNode_1 8 rfl rfl)
theorem dX4_isNode_32 : decode cX4_isNode 32 = .ok (.iconst 0, 1) := dk_3 (dk_at dksX4_isNode_1 9 rfl rfl)
theorem dX4_isNode_33 : decode cX4_isNode 33 = .ok (.istore_n 3, 1) := dk_62 (dk_at dksX4_isNode_1 10 rfl rfl)
theorem dX4_isNode_34 : decode cX4_isNode 34 = .ok (.iload_n 3, 1) := dk_29 (dk_at dksX4_isNode_1 11 rfl rfl)
theorem dX4_isNode_35 : decode cX4_isNode 35 = .ok (.aload_n 0, 1) := dk_42 (dk_at dksX4_isNode_1 12 rfl rfl)
theorem dX4_isNode_36 : decode cX4_isNode 36 = .ok (.getfield 166, 3) := dk_180 0 166 (dk_at dksX4_isNode_1 13 rfl rfl)
theorem dX4_isNode_39 : decode cX4_isNode 39 = .ok (.if_icmp .ge 41, 3) := dk_162 0 41 (dk_at dksX4_isNode_1 16 rfl rfl)
theorem dX4_isNode_42 : decode cX4_isNode 42 = .ok (.iload_n 2, 1) := dk_28 (dk_at dksX4_isNode_1 19 rfl rfl)
theorem dX4_isNode_43 : decode cX4_isNode 43 = .ok (.ifCond .eq 37, 3) := dk_153 0 37 (dk_at dksX4_isNode_1 20 rfl rfl)
theorem dX4_isNode_46 : decode cX4_isNode 46 = .ok (.aload_n 0, 1) := dk_42 (dk_at dksX4_isNode_1 23 rfl rfl)
theorem dX4_isNode_47 : decode cX4_isNode 47 = .ok (.getfield 44, 3) := dk_180 0 44 (dk_at dksX4_isNode_2 0 rfl rfl)
theorem dX4_isNode_50 : decode cX4_isNode 50 = .ok (.aload_n 0, 1) := dk_42 (dk_at dksX4_isNode_2 3 rfl rfl)
theorem dX4_isNode_51 : decode cX4_isNode 51 = .ok (.getfield 31, 3) := dk_180 0 31 (dk_at dksX4_isNode_2 4 rfl rfl)
theorem dX4_isNode_54 : decode cX4_isNode 54 = .ok (.iload_n 1, 1) := dk_27 (dk_at dksX4_isNode_2 7 rfl rfl)
theorem dX4_isNode_55 : decode cX4_isNode 55 = .ok (.iaload, 1) := dk_46 (dk_at dksX4_isNode_2 8 rfl rfl)
theorem dX4_isNode_56 : decode cX4_isNode 56 = .ok (.iload_n 3, 1) := dk_29 (dk_at dksX4_isNode_2 9 rfl rfl)
theorem dX4_isNode_57 : decode cX4_isNode 57 = .ok (.iadd, 1) := dk_96 (dk_at dksX4_isNode_2 10 rfl rfl)
theorem dX4_isNode_58 : decode cX4_isNode 58 = .ok (.iaload, 1) := dk_46 (dk_at dksX4_isNode_2 11 rfl rfl)
theorem dX4_isNode_59 : decode cX4_isNode 59 = .ok (.aload_n 0, 1) := dk_42 (dk_at dksX4_isNode_2 12 rfl rfl)
theorem dX4_isNode_60 : decode cX4_isNode 60 = .ok (.getfield 52, 3) := dk_180 0 52 (dk_at dksX4_isNode_2 13 rfl rfl)
theorem dX4_isNode_63 : decode cX4_isNode 63 = .ok (.iload_n 3, 1) := dk_29 (dk_at dksX4_isNode_2 16 rfl rfl)
theorem dX4_isNode_64 : decode cX4_isNode 64 = .ok (.iaload, 1) := dk_46 (dk_at dksX4_isNode_2 17 rfl rfl)
theorem dX4_isNode_65 : decode cX4_isNode 65 = .ok (.if_icmp .ne 7, 3) := dk_160 0 7 (dk_at dksX4_isNode_2 18 rfl rfl)
theorem dX4_isNode_68 : decode cX4_isNode 68 = .ok (.iconst 1, 1) := dk_4 (dk_at dksX4_isNode_2 21 rfl rfl)
theorem dX4_isNode_69 : decode cX4_isNode 69 = .ok (.goto 4, 3) := dk_167 0 4 (dk_at dksX4_isNode_3 0 rfl rfl)
theorem dX4_isNode_72 : decode cX4_isNode 72 = .ok (.iconst 0, 1) := dk_3 (dk_at dksX4_isNode_3 3 rfl rfl)
theorem dX4_isNode_73 : decode cX4_isNode 73 = .ok (.istore_n 2, 1) := dk_61 (dk_at dksX4_isNode_3 4 rfl rfl)
theorem dX4_isNode_74 : decode cX4_isNode 74 = .ok (.iinc 3 1, 3) := dk_132 3 1 (dk_at dksX4_isNode_3 5 rfl rfl)
theorem dX4_isNode_77 : decode cX4_isNode 77 = .ok (.goto (-43), 3) := dk_167 255 213 (dk_at dksX4_isNode_3 8 rfl rfl)
theorem dX4_isNode_80 : decode cX4_isNode 80 = .ok (.iconst 0, 1) := dk_3 (dk_at dksX4_isNode_3 11 rfl rfl)
theorem dX4_isNode_81 : decode cX4_isNode 81 = .ok (.istore_n 3, 1) := dk_62 (dk_at dksX4_isNode_3 12 rfl rfl)
theorem dX4_isNode_82 : decode cX4_isNode 82 = .ok (.iload_n 3, 1) := dk_29 (dk_at dksX4_isNode_3 13 rfl rfl)
theorem dX4_isNode_83 : decode cX4_isNode 83 = .ok (.aload_n 0, 1) := dk_42 (dk_at dksX4_isNode_3 14 rfl rfl)
theorem dX4_isNode_84 : decode cX4_isNode 84 = .ok (.getfield 169, 3) := dk_180 0 169 (dk_at dksX4_isNode_3 15 rfl rfl)
theorem dX4_isNode_87 : decode cX4_isNode 87 = .ok (.if_icmp .ge 46, 3) := dk_162 0 46 (dk_at dksX4_isNode_3 18 rfl rfl)
theorem dX4_isNode_90 : decode cX4_isNode 90 = .ok (.iload_n 2, 1) := dk_28 (dk_at dksX4_isNode_3 21 rfl rfl)
theorem dX4_isNode_91 : decode cX4_isNode 91 = .ok (.ifCond .eq 42, 3) := dk_153 0 42 (dk_at dksX4_isNode_4 0 rfl rfl)
theorem dX4_isNode_94 : decode cX4_isNode 94 = .ok (.aload_n 0, 1) := dk_42 (dk_at dksX4_isNode_4 3 rfl rfl)
theorem dX4_isNode_95 : decode cX4_isNode 95 = .ok (.getfield 44, 3) := dk_180 0 44 (dk_at dksX4_isNode_4 4 rfl rfl)
theorem dX4_isNode_98 : decode cX4_isNode 98 = .ok (.aload_n 0, 1) := dk_42 (dk_at dksX4_isNode_4 7 rfl rfl)
theorem dX4_isNode_99 : decode cX4_isNode 99 = .ok (.getfield 31, 3) := dk_180 0 31 (dk_at dksX4_isNode_4 8 rfl rfl)
theorem dX4_isNode_102 : decode cX4_isNode 102 = .ok (.iload_n 1, 1) := dk_27 (dk_at dksX4_isNode_4 11 rfl rfl)
theorem dX4_isNode_103 : decode cX4_isNode 103 = .ok (.iaload, 1) := dk_46 (dk_at dksX4_isNode_4 12 rfl rfl)
theorem dX4_isNode_104 : decode cX4_isNode 104 = .ok (.aload_n 0, 1) := dk_42 (dk_at dksX4_isNode_4 13 rfl rfl)
theorem dX4_isNode_105 : decode cX4_isNode 105 = .ok (.getfield 166, 3) := dk_180 0 166 (dk_at dksX4_isNode_4 14 rfl rfl)
theorem dX4_isNode_108 : decode cX4_isNode 108 = .ok (.iadd, 1) := dk_96 (dk_at dksX4_isNode_4 17 rfl rfl)
theorem dX4_isNode_109 : decode cX4_isNode 109 = .ok (.iload_n 3, 1) := dk_29 (dk_at dksX4_isNode_4 18 rfl rfl)
theorem dX4_isNode_110 : decode cX4_isNode 110 = .ok (.iadd, 1) := dk_96 (dk_at dksX4_isNode_4 19 rfl rfl)
theorem dX4_isNode_111 : decode cX4_isNode 111 = .ok (.iaload, 1) := dk_46 (dk_at dksX4_isNode_4 20 rfl rfl)
theorem dX4_isNode_112 : decode cX4_isNode 112 = .ok (.aload_n 0, 1) := dk_42 (dk_at dksX4_isNode_4 21 rfl rfl)
theorem dX4_isNode_113 : decode cX4_isNode 113 = .ok (.getfield 55, 3) := dk_180 0 55 (dk_at dksX4_isNode_5 0 rfl rfl)
theorem dX4_isNode_116 : decode cX4_isNode 116 = .ok (.iload_n 3, 1) := dk_29 (dk_at dksX4_isNode_5 3 rfl rfl)
theorem dX4_isNode_117 : decode cX4_isNode 117 = .ok (.iaload, 1) := dk_46 (dk_at dksX4_isNode_5 4 rfl rfl)
theorem dX4_isNode_118 : decode cX4_isNode 118 = .ok (.if_icmp .ne 7, 3) := dk_160 0 7 (dk_at dksX4_isNode_5 5 rfl rfl)
theorem dX4_isNode_121 : decode cX4_isNode 121 = .ok (.iconst 1, 1) := dk_4 (dk_at dksX4_isNode_5 8 rfl rfl)
theorem dX4_isNode_122 : decode cX4_isNode 122 = .ok (.goto 4, 3) := dk_167 0 4 (dk_at dksX4_isNode_5 9 rfl rfl)
theorem dX4_isNode_125 : decode cX4_isNode 125 = .ok (.iconst 0, 1) := dk_3 (dk_at dksX4_isNode_5 12 rfl rfl)
theorem dX4_isNode_126 : decode cX4_isNode 126 = .ok (.istore_n 2, 1) := dk_61 (dk_at dksX4_isNode_5 13 rfl rfl)
theorem dX4_isNode_127 : decode cX4_isNode 127 = .ok (.iinc 3 1, 3) := dk_132 3 1 (dk_at dksX4_isNode_5 14 rfl rfl)
theorem dX4_isNode_130 : decode cX4_isNode 130 = .ok (.goto (-48), 3) := dk_167 255 208 (dk_at dksX4_isNode_5 17 rfl rfl)
theorem dX4_isNode_133 : decode cX4_isNode 133 = .ok (.iload_n 2, 1) := dk_28 (dk_at dksX4_isNode_5 20 rfl rfl)
theorem dX4_isNode_134 : decode cX4_isNode 134 = .ok (.ireturn, 1) := dk_172 (dk_at dksX4_isNode_5 21 rfl rfl)
abbrev cX4_relate : ByteArray := prog_18_method_15_code
def yX4_relate : MethodName := ⟨RX4, "relate", "(I)V"⟩
def dkwX4_relate_10 : List UInt8 := [104, 27, 96, 21, 4, 84, 132, 2, 1, 167, 255, 12, 177]
abbrev dktX4_relate_10 : List UInt8 := dkwX4_relate_10 ++ []
def dkwX4_relate_9 : List UInt8 := [167, 255, 210, 42, 180, 0, 48, 17, 2, 128, 27, 104, 28, 96, 29, 84, 42, 180, 0, 48, 17, 2, 128, 28]
abbrev dktX4_relate_9 : List UInt8 := dkwX4_relate_9 ++ dktX4_relate_10
def dkwX4_relate_8 : List UInt8 := [42, 27, 21, 5, 182, 0, 192, 28, 182, 0, 188, 154, 0, 7, 4, 167, 0, 4, 3, 54, 4, 132, 5, 1]
abbrev dktX4_relate_8 : List UInt8 := dkwX4_relate_8 ++ dktX4_relate_9
def dkwX4_relate_7 : List UInt8 := [54, 5, 21, 5, 42, 180, 0, 37, 27, 46, 162, 0, 41, 28, 27, 162, 0, 36, 21, 4, 153, 0, 22, 42]
abbrev dktX4_relate_7 : List UInt8 := dkwX4_relate_7 ++ dktX4_relate_8
def dkwX4_relate_6 : List UInt8 := [182, 0, 184, 182, 0, 188, 154, 0, 7, 4, 167, 0, 4, 3, 54, 4, 132, 5, 1, 167, 255, 210, 3]
abbrev dktX4_relate_6 : List UInt8 := dkwX4_relate_6 ++ dktX4_relate_7
def dkwX4_relate_5 : List UInt8 := [180, 0, 34, 28, 46, 162, 0, 41, 28, 27, 162, 0, 36, 21, 4, 153, 0, 22, 42, 27, 42, 28, 21, 5]
abbrev dktX4_relate_5 : List UInt8 := dkwX4_relate_5 ++ dktX4_relate_6
def dkwX4_relate_4 : List UInt8 := [182, 0, 188, 154, 0, 7, 4, 167, 0, 4, 3, 62, 132, 5, 1, 167, 255, 212, 3, 54, 5, 21, 5, 42]
abbrev dktX4_relate_4 : List UInt8 := dkwX4_relate_4 ++ dktX4_relate_5
def dkwX4_relate_3 : List UInt8 := [28, 46, 162, 0, 39, 28, 27, 162, 0, 34, 29, 153, 0, 22, 42, 42, 28, 21, 5, 182, 0, 192, 27]
abbrev dktX4_relate_3 : List UInt8 := dkwX4_relate_3 ++ dktX4_relate_4
def dkwX4_relate_2 : List UInt8 := [154, 0, 7, 4, 167, 0, 4, 3, 62, 132, 5, 1, 167, 255, 212, 3, 54, 5, 21, 5, 42, 180, 0, 37]
abbrev dktX4_relate_2 : List UInt8 := dkwX4_relate_2 ++ dktX4_relate_3
def dkwX4_relate_1 : List UInt8 := [162, 0, 39, 28, 27, 162, 0, 34, 29, 153, 0, 22, 42, 28, 42, 27, 21, 5, 182, 0, 184, 182, 0, 188]
abbrev dktX4_relate_1 : List UInt8 := dkwX4_relate_1 ++ dktX4_relate_2
def dkwX4_relate_0 : List UInt8 := [3, 61, 28, 27, 163, 0, 245, 4, 62, 4, 54, 4, 3, 54, 5, 21, 5, 42, 180, 0, 34, 27, 46]
abbrev dktX4_relate_0 : List UInt8 := dkwX4_relate_0 ++ dktX4_relate_1
theorem dksX4_relate_0 : cX4_relate.data.toList.drop 0 = dktX4_relate_0 := by decide +kernel
theorem dksX4_relate_1 : cX4_relate.data.toList.drop 23 = dktX4_relate_1 := dk_seg dksX4_relate_0 23 rfl rfl
theorem dksX4_relate_2 : cX4_relate.data.toList.drop 47 = dktX4_relate_2 := dk_seg dksX4_relate_1 24 rfl rfl
theorem dksX4_relate_3 : cX4_relate.data.toList.drop 71 = dktX4_relate_3 := dk_seg dksX4_relate_2 24 rfl rfl
theorem dksX4_relate_4 : cX4_relate.data.toList.drop 94 = dktX4_relate_4 := dk_seg dksX4_relate_3 23 rfl rfl
theorem dksX4_relate_5 : cX4_relate.data.toList.drop 118 = dktX4_relate_5 := dk_seg dksX4_relate_4 24 rfl rfl
theorem dksX4_relate_6 : cX4_relate.data.toList.drop 142 = dktX4_relate_6 := dk_seg dksX4_relate_5 24 rfl rfl
theorem dksX4_relate_7 : cX4_relate.data.toList.drop 165 = dktX4_relate_7 := dk_seg dksX4_relate_6 23 rfl rfl
theorem dksX4_relate_8 : cX4_relate.data.toList.drop 189 = dktX4_relate_8 := dk_seg dksX4_relate_7 24 rfl rfl
theorem dksX4_relate_9 : cX4_relate.data.toList.drop 213 = dktX4_relate_9 := dk_seg dksX4_relate_8 24 rfl rfl
theorem dksX4_relate_10 : cX4_relate.data.toList.drop 237 = dktX4_relate_10 := dk_seg dksX4_relate_9 24 rfl rfl
theorem dX4_relate_0 : decode cX4_relate 0 = .ok (.iconst 0, 1) := dk_3 (dk_at dksX4_relate_0 0 rfl rfl)
theorem dX4_relate_1 : decode cX4_relate 1 = .ok (.istore_n 2, 1) := dk_61 (dk_at dksX4_relate_0 1 rfl rfl)
theorem dX4_relate_2 : decode cX4_relate 2 = .ok (.iload_n 2, 1) := dk_28 (dk_at dksX4_relate_0 2 rfl rfl)
theorem dX4_relate_3 : decode cX4_relate 3 = .ok (.iload_n 1, 1) := dk_27 (dk_at dksX4_relate_0 3 rfl rfl)
theorem dX4_relate_4 : decode cX4_relate 4 = .ok (.if_icmp .gt 245, 3) := dk_163 0 245 (dk_at dksX4_relate_0 4 rfl rfl)
theorem dX4_relate_7 : decode cX4_relate 7 = .ok (.iconst 1, 1) := dk_4 (dk_at dksX4_relate_0 7 rfl rfl)
theorem dX4_relate_8 : decode cX4_relate 8 = .ok (.istore_n 3, 1) := dk_62 (dk_at dksX4_relate_0 8 rfl rfl)
theorem dX4_relate_9 : decode cX4_relate 9 = .ok (.iconst 1, 1) := dk_4 (dk_at dksX4_relate_0 9 rfl rfl)
theorem dX4_relate_10 : decode cX4_relate 10 = .ok (.istore 4, 2) := dk_54 4 (dk_at dksX4_relate_0 10 rfl rfl)
theorem dX4_relate_12 : decode cX4_relate 12 = .ok (.iconst 0, 1) := dk_3 (dk_at dksX4_relate_0 12 rfl rfl)
theorem dX4_relate_13 : decode cX4_relate 13 = .ok (.istore 5, 2) := dk_54 5 (dk_at dksX4_relate_0 13 rfl rfl)
theorem dX4_relate_15 : decode cX4_relate 15 = .ok (.iload 5, 2) := dk_21 5 (dk_at dksX4_relate_0 15 rfl rfl)
theorem dX4_relate_17 : decode cX4_relate 17 = .ok (.aload_n 0, 1) := dk_42 (dk_at dksX4_relate_0 17 rfl rfl)
theorem dX4_relate_18 : decode cX4_relate 18 = .ok (.getfield 34, 3) := dk_180 0 34 (dk_at dksX4_relate_0 18 rfl rfl)
theorem dX4_relate_21 : decode cX4_relate 21 = .ok (.iload_n 1, 1) := dk_27 (dk_at dksX4_relate_0 21 rfl rfl)
theorem dX4_relate_22 : decode cX4_relate 22 = .ok (.iaload, 1) := dk_46 (dk_at dksX4_relate_0 22 rfl rfl)
theorem dX4_relate_23 : decode cX4_relate 23 = .ok (.if_icmp .ge 39, 3) := dk_162 0 39 (dk_at dksX4_relate_1 0 rfl rfl)
theorem dX4_relate_26 : decode cX4_relate 26 = .ok (.iload_n 2, 1) := dk_28 (dk_at dksX4_relate_1 3 rfl rfl)
theorem dX4_relate_27 : decode cX4_relate 27 = .ok (.iload_n 1, 1) := dk_27 (dk_at dksX4_relate_1 4 rfl rfl)
theorem dX4_relate_28 : decode cX4_relate 28 = .ok (.if_icmp .ge 34, 3) := dk_162 0 34 (dk_at dksX4_relate_1 5 rfl rfl)
theorem dX4_relate_31 : decode cX4_relate 31 = .ok (.iload_n 3, 1) := dk_29 (dk_at dksX4_relate_1 8 rfl rfl)
theorem dX4_relate_32 : decode cX4_relate 32 = .ok (.ifCond .eq 22, 3) := dk_153 0 22 (dk_at dksX4_relate_1 9 rfl rfl)
theorem dX4_relate_35 : decode cX4_relate 35 = .ok (.aload_n 0, 1) := dk_42 (dk_at dksX4_relate_1 12 rfl rfl)
theorem dX4_relate_36 : decode cX4_relate 36 = .ok (.iload_n 2, 1) := dk_28 (dk_at dksX4_relate_1 13 rfl rfl)
theorem dX4_relate_37 : decode cX4_relate 37 = .ok (.aload_n 0, 1) := dk_42 (dk_at dksX4_relate_1 14 rfl rfl)
theorem dX4_relate_38 : decode cX4_relate 38 = .ok (.iload_n 1, 1) := dk_27 (dk_at dksX4_relate_1 15 rfl rfl)
theorem dX4_relate_39 : decode cX4_relate 39 = .ok (.iload 5, 2) := dk_21 5 (dk_at dksX4_relate_1 16 rfl rfl)
theorem dX4_relate_41 : decode cX4_relate 41 = .ok (.invokevirtual 184, 3) := dk_182 0 184 (dk_at dksX4_relate_1 18 rfl rfl)
theorem dX4_relate_44 : decode cX4_relate 44 = .ok (.invokevirtual 188, 3) := dk_182 0 188 (dk_at dksX4_relate_1 21 rfl rfl)
theorem dX4_relate_47 : decode cX4_relate 47 = .ok (.ifCond .ne 7, 3) := dk_154 0 7 (dk_at dksX4_relate_2 0 rfl rfl)
theorem dX4_relate_50 : decode cX4_relate 50 = .ok (.iconst 1, 1) := dk_4 (dk_at dksX4_relate_2 3 rfl rfl)
theorem dX4_relate_51 : decode cX4_relate 51 = .ok (.goto 4, 3) := dk_167 0 4 (dk_at dksX4_relate_2 4 rfl rfl)
theorem dX4_relate_54 : decode cX4_relate 54 = .ok (.iconst 0, 1) := dk_3 (dk_at dksX4_relate_2 7 rfl rfl)
theorem dX4_relate_55 : decode cX4_relate 55 = .ok (.istore_n 3, 1) := dk_62 (dk_at dksX4_relate_2 8 rfl rfl)
theorem dX4_relate_56 : decode cX4_relate 56 = .ok (.iinc 5 1, 3) := dk_132 5 1 (dk_at dksX4_relate_2 9 rfl rfl)
theorem dX4_relate_59 : decode cX4_relate 59 = .ok (.goto (-44), 3) := dk_167 255 212 (dk_at dksX4_relate_2 12 rfl rfl)
theorem dX4_relate_62 : decode cX4_relate 62 = .ok (.iconst 0, 1) := dk_3 (dk_at dksX4_relate_2 15 rfl rfl)
theorem dX4_relate_63 : decode cX4_relate 63 = .ok (.istore 5, 2) := dk_54 5 (dk_at dksX4_relate_2 16 rfl rfl)
theorem dX4_relate_65 : decode cX4_relate 65 = .ok (.iload 5, 2) := dk_21 5 (dk_at dksX4_relate_2 18 rfl rfl)
theorem dX4_relate_67 : decode cX4_relate 67 = .ok (.aload_n 0, 1) := dk_42 (dk_at dksX4_relate_2 20 rfl rfl)
theorem dX4_relate_68 : decode cX4_relate 68 = .ok (.getfield 37, 3) := dk_180 0 37 (dk_at dksX4_relate_2 21 rfl rfl)
theorem dX4_relate_71 : decode cX4_relate 71 = .ok (.iload_n 2, 1) := dk_28 (dk_at dksX4_relate_3 0 rfl rfl)
theorem dX4_relate_72 : decode cX4_relate 72 = .ok (.iaload, 1) := dk_46 (dk_at dksX4_relate_3 1 rfl rfl)
theorem dX4_relate_73 : decode cX4_relate 73 = .ok (.if_icmp .ge 39, 3) := dk_162 0 39 (dk_at dksX4_relate_3 2 rfl rfl)
theorem dX4_relate_76 : decode cX4_relate 76 = .ok (.iload_n 2, 1) := dk_28 (dk_at dksX4_relate_3 5 rfl rfl)
theorem dX4_relate_77 : decode cX4_relate 77 = .ok (.iload_n 1, 1) := dk_27 (dk_at dksX4_relate_3 6 rfl rfl)
theorem dX4_relate_78 : decode cX4_relate 78 = .ok (.if_icmp .ge 34, 3) := dk_162 0 34 (dk_at dksX4_relate_3 7 rfl rfl)
theorem dX4_relate_81 : decode cX4_relate 81 = .ok (.iload_n 3, 1) := dk_29 (dk_at dksX4_relate_3 10 rfl rfl)
theorem dX4_relate_82 : decode cX4_relate 82 = .ok (.ifCond .eq 22, 3) := dk_153 0 22 (dk_at dksX4_relate_3 11 rfl rfl)
theorem dX4_relate_85 : decode cX4_relate 85 = .ok (.aload_n 0, 1) := dk_42 (dk_at dksX4_relate_3 14 rfl rfl)
theorem dX4_relate_86 : decode cX4_relate 86 = .ok (.aload_n 0, 1) := dk_42 (dk_at dksX4_relate_3 15 rfl rfl)
theorem dX4_relate_87 : decode cX4_relate 87 = .ok (.iload_n 2, 1) := dk_28 (dk_at dksX4_relate_3 16 rfl rfl)
theorem dX4_relate_88 : decode cX4_relate 88 = .ok (.iload 5, 2) := dk_21 5 (dk_at dksX4_relate_3 17 rfl rfl)
theorem dX4_relate_90 : decode cX4_relate 90 = .ok (.invokevirtual 192, 3) := dk_182 0 192 (dk_at dksX4_relate_3 19 rfl rfl)
theorem dX4_relate_93 : decode cX4_relate 93 = .ok (.iload_n 1, 1) := dk_27 (dk_at dksX4_relate_3 22 rfl rfl)
theorem dX4_relate_94 : decode cX4_relate 94 = .ok (.invokevirtual 188, 3) := dk_182 0 188 (dk_at dksX4_relate_4 0 rfl rfl)
theorem dX4_relate_97 : decode cX4_relate 97 = .ok (.ifCond .ne 7, 3) := dk_154 0 7 (dk_at dksX4_relate_4 3 rfl rfl)
theorem dX4_relate_100 : decode cX4_relate 100 = .ok (.iconst 1, 1) := dk_4 (dk_at dksX4_relate_4 6 rfl rfl)
theorem dX4_relate_101 : decode cX4_relate 101 = .ok (.goto 4, 3) := dk_167 0 4 (dk_at dksX4_relate_4 7 rfl rfl)
theorem dX4_relate_104 : decode cX4_relate 104 = .ok (.iconst 0, 1) := dk_3 (dk_at dksX4_relate_4 10 rfl rfl)
theorem dX4_relate_105 : decode cX4_relate 105 = .ok (.istore_n 3, 1) := dk_62 (dk_at dksX4_relate_4 11 rfl rfl)
theorem dX4_relate_106 : decode cX4_relate 106 = .ok (.iinc 5 1, 3) := dk_132 5 1 (dk_at dksX4_relate_4 12 rfl rfl)
theorem dX4_relate_109 : decode cX4_relate 109 = .ok (.goto (-44), 3) := dk_167 255 212 (dk_at dksX4_relate_4 15 rfl rfl)
theorem dX4_relate_112 : decode cX4_relate 112 = .ok (.iconst 0, 1) := dk_3 (dk_at dksX4_relate_4 18 rfl rfl)
theorem dX4_relate_113 : decode cX4_relate 113 = .ok (.istore 5, 2) := dk_54 5 (dk_at dksX4_relate_4 19 rfl rfl)
theorem dX4_relate_115 : decode cX4_relate 115 = .ok (.iload 5, 2) := dk_21 5 (dk_at dksX4_relate_4 21 rfl rfl)
theorem dX4_relate_117 : decode cX4_relate 117 = .ok (.aload_n 0, 1) := dk_42 (dk_at dksX4_relate_4 23 rfl rfl)
theorem dX4_relate_118 : decode cX4_relate 118 = .ok (.getfield 34, 3) := dk_180 0 34 (dk_at dksX4_relate_5 0 rfl rfl)
theorem dX4_relate_121 : decode cX4_relate 121 = .ok (.iload_n 2, 1) := dk_28 (dk_at dksX4_relate_5 3 rfl rfl)
theorem dX4_relate_122 : decode cX4_relate 122 = .ok (.iaload, 1) := dk_46 (dk_at dksX4_relate_5 4 rfl rfl)
theorem dX4_relate_123 : decode cX4_relate 123 = .ok (.if_icmp .ge 41, 3) := dk_162 0 41 (dk_at dksX4_relate_5 5 rfl rfl)
theorem dX4_relate_126 : decode cX4_relate 126 = .ok (.iload_n 2, 1) := dk_28 (dk_at dksX4_relate_5 8 rfl rfl)
theorem dX4_relate_127 : decode cX4_relate 127 = .ok (.iload_n 1, 1) := dk_27 (dk_at dksX4_relate_5 9 rfl rfl)
theorem dX4_relate_128 : decode cX4_relate 128 = .ok (.if_icmp .ge 36, 3) := dk_162 0 36 (dk_at dksX4_relate_5 10 rfl rfl)
theorem dX4_relate_131 : decode cX4_relate 131 = .ok (.iload 4, 2) := dk_21 4 (dk_at dksX4_relate_5 13 rfl rfl)
theorem dX4_relate_133 : decode cX4_relate 133 = .ok (.ifCond .eq 22, 3) := dk_153 0 22 (dk_at dksX4_relate_5 15 rfl rfl)
theorem dX4_relate_136 : decode cX4_relate 136 = .ok (.aload_n 0, 1) := dk_42 (dk_at dksX4_relate_5 18 rfl rfl)
theorem dX4_relate_137 : decode cX4_relate 137 = .ok (.iload_n 1, 1) := dk_27 (dk_at dksX4_relate_5 19 rfl rfl)
theorem dX4_relate_138 : decode cX4_relate 138 = .ok (.aload_n 0, 1) := dk_42 (dk_at dksX4_relate_5 20 rfl rfl)
theorem dX4_relate_139 : decode cX4_relate 139 = .ok (.iload_n 2, 1) := dk_28 (dk_at dksX4_relate_5 21 rfl rfl)
theorem dX4_relate_140 : decode cX4_relate 140 = .ok (.iload 5, 2) := dk_21 5 (dk_at dksX4_relate_5 22 rfl rfl)
theorem dX4_relate_142 : decode cX4_relate 142 = .ok (.invokevirtual 184, 3) := dk_182 0 184 (dk_at dksX4_relate_6 0 rfl rfl)
theorem dX4_relate_145 : decode cX4_relate 145 = .ok (.invokevirtual 188, 3) := dk_182 0 188 (dk_at dksX4_relate_6 3 rfl rfl)
theorem dX4_relate_148 : decode cX4_relate 148 = .ok (.ifCond .ne 7, 3) := dk_154 0 7 (dk_at dksX4_relate_6 6 rfl rfl)
theorem dX4_relate_151 : decode cX4_relate 151 = .ok (.iconst 1, 1) := dk_4 (dk_at dksX4_relate_6 9 rfl rfl)
theorem dX4_relate_152 : decode cX4_relate 152 = .ok (.goto 4, 3) := dk_167 0 4 (dk_at dksX4_relate_6 10 rfl rfl)
theorem dX4_relate_155 : decode cX4_relate 155 = .ok (.iconst 0, 1) := dk_3 (dk_at dksX4_relate_6 13 rfl rfl)
theorem dX4_relate_156 : decode cX4_relate 156 = .ok (.istore 4, 2) := dk_54 4 (dk_at dksX4_relate_6 14 rfl rfl)
theorem dX4_relate_158 : decode cX4_relate 158 = .ok (.iinc 5 1, 3) := dk_132 5 1 (dk_at dksX4_relate_6 16 rfl rfl)
theorem dX4_relate_161 : decode cX4_relate 161 = .ok (.goto (-46), 3) := dk_167 255 210 (dk_at dksX4_relate_6 19 rfl rfl)
theorem dX4_relate_164 : decode cX4_relate 164 = .ok (.iconst 0, 1) := dk_3 (dk_at dksX4_relate_6 22 rfl rfl)
theorem dX4_relate_165 : decode cX4_relate 165 = .ok (.istore 5, 2) := dk_54 5 (dk_at dksX4_relate_7 0 rfl rfl)
theorem dX4_relate_167 : decode cX4_relate 167 = .ok (.iload 5, 2) := dk_21 5 (dk_at dksX4_relate_7 2 rfl rfl)
theorem dX4_relate_169 : decode cX4_relate 169 = .ok (.aload_n 0, 1) := dk_42 (dk_at dksX4_relate_7 4 rfl rfl)
theorem dX4_relate_170 : decode cX4_relate 170 = .ok (.getfield 37, 3) := dk_180 0 37 (dk_at dksX4_relate_7 5 rfl rfl)
theorem dX4_relate_173 : decode cX4_relate 173 = .ok (.iload_n 1, 1) := dk_27 (dk_at dksX4_relate_7 8 rfl rfl)
theorem dX4_relate_174 : decode cX4_relate 174 = .ok (.iaload, 1) := dk_46 (dk_at dksX4_relate_7 9 rfl rfl)
theorem dX4_relate_175 : decode cX4_relate 175 = .ok (.if_icmp .ge 41, 3) := dk_162 0 41 (dk_at dksX4_relate_7 10 rfl rfl)
theorem dX4_relate_178 : decode cX4_relate 178 = .ok (.iload_n 2, 1) := dk_28 (dk_at dksX4_relate_7 13 rfl rfl)
theorem dX4_relate_179 : decode cX4_relate 179 = .ok (.iload_n 1, 1) := dk_27 (dk_at dksX4_relate_7 14 rfl rfl)
theorem dX4_relate_180 : decode cX4_relate 180 = .ok (.if_icmp .ge 36, 3) := dk_162 0 36 (dk_at dksX4_relate_7 15 rfl rfl)
theorem dX4_relate_183 : decode cX4_relate 183 = .ok (.iload 4, 2) := dk_21 4 (dk_at dksX4_relate_7 18 rfl rfl)
theorem dX4_relate_185 : decode cX4_relate 185 = .ok (.ifCond .eq 22, 3) := dk_153 0 22 (dk_at dksX4_relate_7 20 rfl rfl)
theorem dX4_relate_188 : decode cX4_relate 188 = .ok (.aload_n 0, 1) := dk_42 (dk_at dksX4_relate_7 23 rfl rfl)
theorem dX4_relate_189 : decode cX4_relate 189 = .ok (.aload_n 0, 1) := dk_42 (dk_at dksX4_relate_8 0 rfl rfl)
theorem dX4_relate_190 : decode cX4_relate 190 = .ok (.iload_n 1, 1) := dk_27 (dk_at dksX4_relate_8 1 rfl rfl)
theorem dX4_relate_191 : decode cX4_relate 191 = .ok (.iload 5, 2) := dk_21 5 (dk_at dksX4_relate_8 2 rfl rfl)
theorem dX4_relate_193 : decode cX4_relate 193 = .ok (.invokevirtual 192, 3) := dk_182 0 192 (dk_at dksX4_relate_8 4 rfl rfl)
theorem dX4_relate_196 : decode cX4_relate 196 = .ok (.iload_n 2, 1) := dk_28 (dk_at dksX4_relate_8 7 rfl rfl)
theorem dX4_relate_197 : decode cX4_relate 197 = .ok (.invokevirtual 188, 3) := dk_182 0 188 (dk_at dksX4_relate_8 8 rfl rfl)
theorem dX4_relate_200 : decode cX4_relate 200 = .ok (.ifCond .ne 7, 3) := dk_154 0 7 (dk_at dksX4_relate_8 11 rfl rfl)
theorem dX4_relate_203 : decode cX4_relate 203 = .ok (.iconst 1, 1) := dk_4 (dk_at dksX4_relate_8 14 rfl rfl)
theorem dX4_relate_204 : decode cX4_relate 204 = .ok (.goto 4, 3) := dk_167 0 4 (dk_at dksX4_relate_8 15 rfl rfl)
theorem dX4_relate_207 : decode cX4_relate 207 = .ok (.iconst 0, 1) := dk_3 (dk_at dksX4_relate_8 18 rfl rfl)
theorem dX4_relate_208 : decode cX4_relate 208 = .ok (.istore 4, 2) := dk_54 4 (dk_at dksX4_relate_8 19 rfl rfl)
theorem dX4_relate_210 : decode cX4_relate 210 = .ok (.iinc 5 1, 3) := dk_132 5 1 (dk_at dksX4_relate_8 21 rfl rfl)
theorem dX4_relate_213 : decode cX4_relate 213 = .ok (.goto (-46), 3) := dk_167 255 210 (dk_at dksX4_relate_9 0 rfl rfl)
theorem dX4_relate_216 : decode cX4_relate 216 = .ok (.aload_n 0, 1) := dk_42 (dk_at dksX4_relate_9 3 rfl rfl)
theorem dX4_relate_217 : decode cX4_relate 217 = .ok (.getfield 48, 3) := dk_180 0 48 (dk_at dksX4_relate_9 4 rfl rfl)
theorem dX4_relate_220 : decode cX4_relate 220 = .ok (.sipush 640, 3) := dk_17 2 128 (dk_at dksX4_relate_9 7 rfl rfl)
theorem dX4_relate_223 : decode cX4_relate 223 = .ok (.iload_n 1, 1) := dk_27 (dk_at dksX4_relate_9 10 rfl rfl)
theorem dX4_relate_224 : decode cX4_relate 224 = .ok (.imul, 1) := dk_104 (dk_at dksX4_relate_9 11 rfl rfl)
theorem dX4_relate_225 : decode cX4_relate 225 = .ok (.iload_n 2, 1) := dk_28 (dk_at dksX4_relate_9 12 rfl rfl)
theorem dX4_relate_226 : decode cX4_relate 226 = .ok (.iadd, 1) := dk_96 (dk_at dksX4_relate_9 13 rfl rfl)
theorem dX4_relate_227 : decode cX4_relate 227 = .ok (.iload_n 3, 1) := dk_29 (dk_at dksX4_relate_9 14 rfl rfl)
theorem dX4_relate_228 : decode cX4_relate 228 = .ok (.bastore, 1) := dk_84 (dk_at dksX4_relate_9 15 rfl rfl)
theorem dX4_relate_229 : decode cX4_relate 229 = .ok (.aload_n 0, 1) := dk_42 (dk_at dksX4_relate_9 16 rfl rfl)
theorem dX4_relate_230 : decode cX4_relate 230 = .ok (.getfield 48, 3) := dk_180 0 48 (dk_at dksX4_relate_9 17 rfl rfl)
theorem dX4_relate_233 : decode cX4_relate 233 = .ok (.sipush 640, 3) := dk_17 2 128 (dk_at dksX4_relate_9 20 rfl rfl)
theorem dX4_relate_236 : decode cX4_relate 236 = .ok (.iload_n 2, 1) := dk_28 (dk_at dksX4_relate_9 23 rfl rfl)
theorem dX4_relate_237 : decode cX4_relate 237 = .ok (.imul, 1) := dk_104 (dk_at dksX4_relate_10 0 rfl rfl)
theorem dX4_relate_238 : decode cX4_relate 238 = .ok (.iload_n 1, 1) := dk_27 (dk_at dksX4_relate_10 1 rfl rfl)
theorem dX4_relate_239 : decode cX4_relate 239 = .ok (.iadd, 1) := dk_96 (dk_at dksX4_relate_10 2 rfl rfl)
theorem dX4_relate_240 : decode cX4_relate 240 = .ok (.iload 4, 2) := dk_21 4 (dk_at dksX4_relate_10 3 rfl rfl)
theorem dX4_relate_242 : decode cX4_relate 242 = .ok (.bastore, 1) := dk_84 (dk_at dksX4_relate_10 5 rfl rfl)
theorem dX4_relate_243 : decode cX4_relate 243 = .ok (.iinc 2 1, 3) := dk_132 2 1 (dk_at dksX4_relate_10 6 rfl rfl)
theorem dX4_relate_246 : decode cX4_relate 246 = .ok (.goto (-244), 3) := dk_167 255 12 (dk_at dksX4_relate_10 9 rfl rfl)
theorem dX4_relate_249 : decode cX4_relate 249 = .ok (.return_, 1) := dk_177 (dk_at dksX4_relate_10 12 rfl rfl)
abbrev cX4_store : ByteArray := prog_18_method_26_code
def yX4_store : MethodName := ⟨RX4, "store", "(I)Z"⟩
def dkwX4_store_10 : List UInt8 := [132, 4, 1, 167, 255, 201, 4, 172]
abbrev dktX4_store_10 : List UInt8 := dkwX4_store_10 ++ []
def dkwX4_store_9 : List UInt8 := [180, 0, 82, 5, 5, 21, 4, 104, 96, 42, 42, 180, 0, 79, 21, 4, 46, 3, 182, 0, 215, 79]
abbrev dktX4_store_9 : List UInt8 := dkwX4_store_9 ++ dktX4_store_10
def dkwX4_store_8 : List UInt8 := [180, 0, 82, 4, 5, 21, 4, 104, 96, 42, 42, 180, 0, 79, 21, 4, 46, 4, 182, 0, 215, 79, 42]
abbrev dktX4_store_8 : List UInt8 := dkwX4_store_8 ++ dktX4_store_9
def dkwX4_store_7 : List UInt8 := [132, 4, 1, 167, 255, 110, 42, 180, 0, 82, 3, 28, 79, 3, 54, 4, 21, 4, 28, 162, 0, 55, 42]
abbrev dktX4_store_7 : List UInt8 := dkwX4_store_7 ++ dktX4_store_8
def dkwX4_store_6 : List UInt8 := [162, 0, 23, 42, 180, 0, 76, 42, 180, 0, 79, 21, 6, 46, 21, 6, 79, 132, 6, 1, 167, 255, 233]
abbrev dktX4_store_6 : List UInt8 := dkwX4_store_6 ++ dktX4_store_7
def dkwX4_store_5 : List UInt8 := [180, 0, 79, 21, 7, 21, 6, 79, 132, 3, 1, 132, 6, 1, 167, 255, 163, 21, 5, 54, 6, 21, 6, 29]
abbrev dktX4_store_5 : List UInt8 := dkwX4_store_5 ++ dktX4_store_6
def dkwX4_store_4 : List UInt8 := [180, 0, 79, 21, 7, 42, 180, 0, 79, 21, 7, 4, 100, 46, 79, 132, 7, 255, 167, 255, 212, 42]
abbrev dktX4_store_4 : List UInt8 := dkwX4_store_4 ++ dktX4_store_5
def dkwX4_store_3 : List UInt8 := [21, 5, 164, 0, 43, 42, 21, 6, 42, 180, 0, 79, 21, 7, 4, 100, 46, 182, 0, 225, 153, 0, 25, 42]
abbrev dktX4_store_3 : List UInt8 := dkwX4_store_3 ++ dktX4_store_4
def dkwX4_store_2 : List UInt8 := [21, 6, 51, 153, 0, 77, 42, 180, 0, 40, 21, 6, 46, 21, 4, 160, 0, 65, 29, 54, 7, 21, 7]
abbrev dktX4_store_2 : List UInt8 := dkwX4_store_2 ++ dktX4_store_3
def dkwX4_store_1 : List UInt8 := [180, 0, 40, 27, 46, 163, 0, 141, 29, 54, 5, 3, 54, 6, 21, 6, 27, 163, 0, 93, 42, 180, 0, 73]
abbrev dktX4_store_1 : List UInt8 := dkwX4_store_1 ++ dktX4_store_2
def dkwX4_store_0 : List UInt8 := [42, 27, 182, 0, 221, 61, 28, 16, 32, 164, 0, 5, 3, 172, 3, 62, 3, 54, 4, 21, 4, 42]
abbrev dktX4_store_0 : List UInt8 := dkwX4_store_0 ++ dktX4_store_1
theorem dksX4_store_0 : cX4_store.data.toList.drop 0 = dktX4_store_0 := by decide +kernel
theorem dksX4_store_1 : cX4_store.data.toList.drop 22 = dktX4_store_1 := dk_seg dksX4_store_0 22 rfl rfl
theorem dksX4_store_2 : cX4_store.data.toList.drop 46 = dktX4_store_2 := dk_seg dksX4_store_1 24 rfl rfl
theorem dksX4_store_3 : cX4_store.data.toList.drop 69 = dktX4_store_3 := dk_seg dksX4_store_2 23 rfl rfl
theorem dksX4_store_4 : cX4_store.data.toList.drop 93 = dktX4_store_4 := dk_seg dksX4_store_3 24 rfl rfl
theorem dksX4_store_5 : cX4_store.data.toList.drop 115 = dktX4_store_5 := dk_seg dksX4_store_4 22 rfl rfl
theorem dksX4_store_6 : cX4_store.data.toList.drop 139 = dktX4_store_6 := dk_seg dksX4_store_5 24 rfl rfl
theorem dksX4_store_7 : cX4_store.data.toList.drop 162 = dktX4_store_7 := dk_seg dksX4_store_6 23 rfl rfl
theorem dksX4_store_8 : cX4_store.data.toList.drop 185 = dktX4_store_8 := dk_seg dksX4_store_7 23 rfl rfl
theorem dksX4_store_9 : cX4_store.data.toList.drop 208 = dktX4_store_9 := dk_seg dksX4_store_8 23 rfl rfl
theorem dksX4_store_10 : cX4_store.data.toList.drop 230 = dktX4_store_10 := dk_seg dksX4_store_9 22 rfl rfl
theorem dX4_store_0 : decode cX4_store 0 = .ok (.aload_n 0, 1) := dk_42 (dk_at dksX4_store_0 0 rfl rfl)
theorem dX4_store_1 : decode cX4_store 1 = .ok (.iload_n 1, 1) := dk_27 (dk_at dksX4_store_0 1 rfl rfl)
theorem dX4_store_2 : decode cX4_store 2 = .ok (.invokevirtual 221, 3) := dk_182 0 221 (dk_at dksX4_store_0 2 rfl rfl)
theorem dX4_store_5 : decode cX4_store 5 = .ok (.istore_n 2, 1) := dk_61 (dk_at dksX4_store_0 5 rfl rfl)
theorem dX4_store_6 : decode cX4_store 6 = .ok (.iload_n 2, 1) := dk_28 (dk_at dksX4_store_0 6 rfl rfl)
theorem dX4_store_7 : decode cX4_store 7 = .ok (.bipush 32, 2) := dk_16 32 (dk_at dksX4_store_0 7 rfl rfl)
theorem dX4_store_9 : decode cX4_store 9 = .ok (.if_icmp .le 5, 3) := dk_164 0 5 (dk_at dksX4_store_0 9 rfl rfl)
theorem dX4_store_12 : decode cX4_store 12 = .ok (.iconst 0, 1) := dk_3 (dk_at dksX4_store_0 12 rfl rfl)
theorem dX4_store_13 : decode cX4_store 13 = .ok (.ireturn, 1) := dk_172 (dk_at dksX4_store_0 13 rfl rfl)
theorem dX4_store_14 : decode cX4_store 14 = .ok (.iconst 0, 1) := dk_3 (dk_at dksX4_store_0 14 rfl rfl)
theorem dX4_store_15 : decode cX4_store 15 = .ok (.istore_n 3, 1) := dk_62 (dk_at dksX4_store_0 15 rfl rfl)
theorem dX4_store_16 : decode cX4_store 16 = .ok (.iconst 0, 1) := dk_3 (dk_at dksX4_store_0 16 rfl rfl)
theorem dX4_store_17 : decode cX4_store 17 = .ok (.istore 4, 2) := dk_54 4 (dk_at dksX4_store_0 17 rfl rfl)
theorem dX4_store_19 : decode cX4_store 19 = .ok (.iload 4, 2) := dk_21 4 (dk_at dksX4_store_0 19 rfl rfl)
theorem dX4_store_21 : decode cX4_store 21 = .ok (.aload_n 0, 1) := dk_42 (dk_at dksX4_store_0 21 rfl rfl)
theorem dX4_store_22 : decode cX4_store 22 = .ok (.getfield 40, 3) := dk_180 0 40 (dk_at dksX4_store_1 0 rfl rfl)
theorem dX4_store_25 : decode cX4_store 25 = .ok (.iload_n 1, 1) := dk_27 (dk_at dksX4_store_1 3 rfl rfl)
theorem dX4_store_26 : decode cX4_store 26 = .ok (.iaload, 1) := dk_46 (dk_at dksX4_store_1 4 rfl rfl)
theorem dX4_store_27 : decode cX4_store 27 = .ok (.if_icmp .gt 141, 3) := dk_163 0 141 (dk_at dksX4_store_1 5 rfl rfl)
theorem dX4_store_30 : decode cX4_store 30 = .ok (.iload_n 3, 1) := dk_29 (dk_at dksX4_store_1 8 rfl rfl)
theorem dX4_store_31 : decode cX4_store 31 = .ok (.istore 5, 2) := dk_54 5 (dk_at dksX4_store_1 9 rfl rfl)
theorem dX4_store_33 : decode cX4_store 33 = .ok (.iconst 0, 1) := dk_3 (dk_at dksX4_store_1 11 rfl rfl)
theorem dX4_store_34 : decode cX4_store 34 = .ok (.istore 6, 2) := dk_54 6 (dk_at dksX4_store_1 12 rfl rfl)
theorem dX4_store_36 : decode cX4_store 36 = .ok (.iload 6, 2) := dk_21 6 (dk_at dksX4_store_1 14 rfl rfl)
theorem dX4_store_38 : decode cX4_store 38 = .ok (.iload_n 1, 1) := dk_27 (dk_at dksX4_store_1 16 rfl rfl)
theorem dX4_store_39 : decode cX4_store 39 = .ok (.if_icmp .gt 93, 3) := dk_163 0 93 (dk_at dksX4_store_1 17 rfl rfl)
theorem dX4_store_42 : decode cX4_store 42 = .ok (.aload_n 0, 1) := dk_42 (dk_at dksX4_store_1 20 rfl rfl)
theorem dX4_store_43 : decode cX4_store 43 = .ok (.getfield 73, 3) := dk_180 0 73 (dk_at dksX4_store_1 21 rfl rfl)
theorem dX4_store_46 : decode cX4_store 46 = .ok (.iload 6, 2) := dk_21 6 (dk_at dksX4_store_2 0 rfl rfl)
theorem dX4_store_48 : decode cX4_store 48 = .ok (.baload, 1) := dk_51 (dk_at dksX4_store_2 2 rfl rfl)
theorem dX4_store_49 : decode cX4_store 49 = .ok (.ifCond .eq 77, 3) := dk_153 0 77 (dk_at dksX4_store_2 3 rfl rfl)
theorem dX4_store_52 : decode cX4_store 52 = .ok (.aload_n 0, 1) := dk_42 (dk_at dksX4_store_2 6 rfl rfl)
theorem dX4_store_53 : decode cX4_store 53 = .ok (.getfield 40, 3) := dk_180 0 40 (dk_at dksX4_store_2 7 rfl rfl)
theorem dX4_store_56 : decode cX4_store 56 = .ok (.iload 6, 2) := dk_21 6 (dk_at dksX4_store_2 10 rfl rfl)
theorem dX4_store_58 : decode cX4_store 58 = .ok (.iaload, 1) := dk_46 (dk_at dksX4_store_2 12 rfl rfl)
theorem dX4_store_59 : decode cX4_store 59 = .ok (.iload 4, 2) := dk_21 4 (dk_at dksX4_store_2 13 rfl rfl)
theorem dX4_store_61 : decode cX4_store 61 = .ok (.if_icmp .ne 65, 3) := dk_160 0 65 (dk_at dksX4_store_2 15 rfl rfl)
theorem dX4_store_64 : decode cX4_store 64 = .ok (.iload_n 3, 1) := dk_29 (dk_at dksX4_store_2 18 rfl rfl)
theorem dX4_store_65 : decode cX4_store 65 = .ok (.istore 7, 2) := dk_54 7 (dk_at dksX4_store_2 19 rfl rfl)
theorem dX4_store_67 : decode cX4_store 67 = .ok (.iload 7, 2) := dk_21 7 (dk_at dksX4_store_2 21 rfl rfl)
theorem dX4_store_69 : decode cX4_store 69 = .ok (.iload 5, 2) := dk_21 5 (dk_at dksX4_store_3 0 rfl rfl)
theorem dX4_store_71 : decode cX4_store 71 = .ok (.if_icmp .le 43, 3) := dk_164 0 43 (dk_at dksX4_store_3 2 rfl rfl)
theorem dX4_store_74 : decode cX4_store 74 = .ok (.aload_n 0, 1) := dk_42 (dk_at dksX4_store_3 5 rfl rfl)
theorem dX4_store_75 : decode cX4_store 75 = .ok (.iload 6, 2) := dk_21 6 (dk_at dksX4_store_3 6 rfl rfl)
theorem dX4_store_77 : decode cX4_store 77 = .ok (.aload_n 0, 1) := dk_42 (dk_at dksX4_store_3 8 rfl rfl)
theorem dX4_store_78 : decode cX4_store 78 = .ok (.getfield 79, 3) := dk_180 0 79 (dk_at dksX4_store_3 9 rfl rfl)
theorem dX4_store_81 : decode cX4_store 81 = .ok (.iload 7, 2) := dk_21 7 (dk_at dksX4_store_3 12 rfl rfl)
theorem dX4_store_83 : decode cX4_store 83 = .ok (.iconst 1, 1) := dk_4 (dk_at dksX4_store_3 14 rfl rfl)
theorem dX4_store_84 : decode cX4_store 84 = .ok (.isub, 1) := dk_100 (dk_at dksX4_store_3 15 rfl rfl)
theorem dX4_store_85 : decode cX4_store 85 = .ok (.iaload, 1) := dk_46 (dk_at dksX4_store_3 16 rfl rfl)
theorem dX4_store_86 : decode cX4_store 86 = .ok (.invokevirtual 225, 3) := dk_182 0 225 (dk_at dksX4_store_3 17 rfl rfl)
theorem dX4_store_89 : decode cX4_store 89 = .ok (.ifCond .eq 25, 3) := dk_153 0 25 (dk_at dksX4_store_3 20 rfl rfl)
theorem dX4_store_92 : decode cX4_store 92 = .ok (.aload_n 0, 1) := dk_42 (dk_at dksX4_store_3 23 rfl rfl)
theorem dX4_store_93 : decode cX4_store 93 = .ok (.getfield 79, 3) := dk_180 0 79 (dk_at dksX4_store_4 0 rfl rfl)
theorem dX4_store_96 : decode cX4_store 96 = .ok (.iload 7, 2) := dk_21 7 (dk_at dksX4_store_4 3 rfl rfl)
theorem dX4_store_98 : decode cX4_store 98 = .ok (.aload_n 0, 1) := dk_42 (dk_at dksX4_store_4 5 rfl rfl)
theorem dX4_store_99 : decode cX4_store 99 = .ok (.getfield 79, 3) := dk_180 0 79 (dk_at dksX4_store_4 6 rfl rfl)
theorem dX4_store_102 : decode cX4_store 102 = .ok (.iload 7, 2) := dk_21 7 (dk_at dksX4_store_4 9 rfl rfl)
theorem dX4_store_104 : decode cX4_store 104 = .ok (.iconst 1, 1) := dk_4 (dk_at dksX4_store_4 11 rfl rfl)
theorem dX4_store_105 : decode cX4_store 105 = .ok (.isub, 1) := dk_100 (dk_at dksX4_store_4 12 rfl rfl)
theorem dX4_store_106 : decode cX4_store 106 = .ok (.iaload, 1) := dk_46 (dk_at dksX4_store_4 13 rfl rfl)
theorem dX4_store_107 : decode cX4_store 107 = .ok (.iastore, 1) := dk_79 (dk_at dksX4_store_4 14 rfl rfl)
theorem dX4_store_108 : decode cX4_store 108 = .ok (.iinc 7 (-1), 3) := dk_132 7 255 (dk_at dksX4_store_4 15 rfl rfl)
theorem dX4_store_111 : decode cX4_store 111 = .ok (.goto (-44), 3) := dk_167 255 212 (dk_at dksX4_store_4 18 rfl rfl)
theorem dX4_store_114 : decode cX4_store 114 = .ok (.aload_n 0, 1) := dk_42 (dk_at dksX4_store_4 21 rfl rfl)
theorem dX4_store_115 : decode cX4_store 115 = .ok (.getfield 79, 3) := dk_180 0 79 (dk_at dksX4_store_5 0 rfl rfl)
theorem dX4_store_118 : decode cX4_store 118 = .ok (.iload 7, 2) := dk_21 7 (dk_at dksX4_store_5 3 rfl rfl)
theorem dX4_store_120 : decode cX4_store 120 = .ok (.iload 6, 2) := dk_21 6 (dk_at dksX4_store_5 5 rfl rfl)
theorem dX4_store_122 : decode cX4_store 122 = .ok (.iastore, 1) := dk_79 (dk_at dksX4_store_5 7 rfl rfl)
theorem dX4_store_123 : decode cX4_store 123 = .ok (.iinc 3 1, 3) := dk_132 3 1 (dk_at dksX4_store_5 8 rfl rfl)
theorem dX4_store_126 : decode cX4_store 126 = .ok (.iinc 6 1, 3) := dk_132 6 1 (dk_at dksX4_store_5 11 rfl rfl)
theorem dX4_store_129 : decode cX4_store 129 = .ok (.goto (-93), 3) := dk_167 255 163 (dk_at dksX4_store_5 14 rfl rfl)
theorem dX4_store_132 : decode cX4_store 132 = .ok (.iload 5, 2) := dk_21 5 (dk_at dksX4_store_5 17 rfl rfl)
theorem dX4_store_134 : decode cX4_store 134 = .ok (.istore 6, 2) := dk_54 6 (dk_at dksX4_store_5 19 rfl rfl)
theorem dX4_store_136 : decode cX4_store 136 = .ok (.iload 6, 2) := dk_21 6 (dk_at dksX4_store_5 21 rfl rfl)
theorem dX4_store_138 : decode cX4_store 138 = .ok (.iload_n 3, 1) := dk_29 (dk_at dksX4_store_5 23 rfl rfl)
theorem dX4_store_139 : decode cX4_store 139 = .ok (.if_icmp .ge 23, 3) := dk_162 0 23 (dk_at dksX4_store_6 0 rfl rfl)
theorem dX4_store_142 : decode cX4_store 142 = .ok (.aload_n 0, 1) := dk_42 (dk_at dksX4_store_6 3 rfl rfl)
theorem dX4_store_143 : decode cX4_store 143 = .ok (.getfield 76, 3) := dk_180 0 76 (dk_at dksX4_store_6 4 rfl rfl)
theorem dX4_store_146 : decode cX4_store 146 = .ok (.aload_n 0, 1) := dk_42 (dk_at dksX4_store_6 7 rfl rfl)
theorem dX4_store_147 : decode cX4_store 147 = .ok (.getfield 79, 3) := dk_180 0 79 (dk_at dksX4_store_6 8 rfl rfl)
theorem dX4_store_150 : decode cX4_store 150 = .ok (.iload 6, 2) := dk_21 6 (dk_at dksX4_store_6 11 rfl rfl)
theorem dX4_store_152 : decode cX4_store 152 = .ok (.iaload, 1) := dk_46 (dk_at dksX4_store_6 13 rfl rfl)
theorem dX4_store_153 : decode cX4_store 153 = .ok (.iload 6, 2) := dk_21 6 (dk_at dksX4_store_6 14 rfl rfl)
theorem dX4_store_155 : decode cX4_store 155 = .ok (.iastore, 1) := dk_79 (dk_at dksX4_store_6 16 rfl rfl)
theorem dX4_store_156 : decode cX4_store 156 = .ok (.iinc 6 1, 3) := dk_132 6 1 (dk_at dksX4_store_6 17 rfl rfl)
theorem dX4_store_159 : decode cX4_store 159 = .ok (.goto (-23), 3) := dk_167 255 233 (dk_at dksX4_store_6 20 rfl rfl)
theorem dX4_store_162 : decode cX4_store 162 = .ok (.iinc 4 1, 3) := dk_132 4 1 (dk_at dksX4_store_7 0 rfl rfl)
theorem dX4_store_165 : decode cX4_store 165 = .ok (.goto (-146), 3) := dk_167 255 110 (dk_at dksX4_store_7 3 rfl rfl)
theorem dX4_store_168 : decode cX4_store 168 = .ok (.aload_n 0, 1) := dk_42 (dk_at dksX4_store_7 6 rfl rfl)
theorem dX4_store_169 : decode cX4_store 169 = .ok (.getfield 82, 3) := dk_180 0 82 (dk_at dksX4_store_7 7 rfl rfl)
theorem dX4_store_172 : decode cX4_store 172 = .ok (.iconst 0, 1) := dk_3 (dk_at dksX4_store_7 10 rfl rfl)
theorem dX4_store_173 : decode cX4_store 173 = .ok (.iload_n 2, 1) := dk_28 (dk_at dksX4_store_7 11 rfl rfl)
theorem dX4_store_174 : decode cX4_store 174 = .ok (.iastore, 1) := dk_79 (dk_at dksX4_store_7 12 rfl rfl)
theorem dX4_store_175 : decode cX4_store 175 = .ok (.iconst 0, 1) := dk_3 (dk_at dksX4_store_7 13 rfl rfl)
theorem dX4_store_176 : decode cX4_store 176 = .ok (.istore 4, 2) := dk_54 4 (dk_at dksX4_store_7 14 rfl rfl)
theorem dX4_store_178 : decode cX4_store 178 = .ok (.iload 4, 2) := dk_21 4 (dk_at dksX4_store_7 16 rfl rfl)
theorem dX4_store_180 : decode cX4_store 180 = .ok (.iload_n 2, 1) := dk_28 (dk_at dksX4_store_7 18 rfl rfl)
theorem dX4_store_181 : decode cX4_store 181 = .ok (.if_icmp .ge 55, 3) := dk_162 0 55 (dk_at dksX4_store_7 19 rfl rfl)
theorem dX4_store_184 : decode cX4_store 184 = .ok (.aload_n 0, 1) := dk_42 (dk_at dksX4_store_7 22 rfl rfl)
theorem dX4_store_185 : decode cX4_store 185 = .ok (.getfield 82, 3) := dk_180 0 82 (dk_at dksX4_store_8 0 rfl rfl)
theorem dX4_store_188 : decode cX4_store 188 = .ok (.iconst 1, 1) := dk_4 (dk_at dksX4_store_8 3 rfl rfl)
theorem dX4_store_189 : decode cX4_store 189 = .ok (.iconst 2, 1) := dk_5 (dk_at dksX4_store_8 4 rfl rfl)
theorem dX4_store_190 : decode cX4_store 190 = .ok (.iload 4, 2) := dk_21 4 (dk_at dksX4_store_8 5 rfl rfl)
theorem dX4_store_192 : decode cX4_store 192 = .ok (.imul, 1) := dk_104 (dk_at dksX4_store_8 7 rfl rfl)
theorem dX4_store_193 : decode cX4_store 193 = .ok (.iadd, 1) := dk_96 (dk_at dksX4_store_8 8 rfl rfl)
theorem dX4_store_194 : decode cX4_store 194 = .ok (.aload_n 0, 1) := dk_42 (dk_at dksX4_store_8 9 rfl rfl)
theorem dX4_store_195 : decode cX4_store 195 = .ok (.aload_n 0, 1) := dk_42 (dk_at dksX4_store_8 10 rfl rfl)
theorem dX4_store_196 : decode cX4_store 196 = .ok (.getfield 79, 3) := dk_180 0 79 (dk_at dksX4_store_8 11 rfl rfl)
theorem dX4_store_199 : decode cX4_store 199 = .ok (.iload 4, 2) := dk_21 4 (dk_at dksX4_store_8 14 rfl rfl)
theorem dX4_store_201 : decode cX4_store 201 = .ok (.iaload, 1) := dk_46 (dk_at dksX4_store_8 16 rfl rfl)
theorem dX4_store_202 : decode cX4_store 202 = .ok (.iconst 1, 1) := dk_4 (dk_at dksX4_store_8 17 rfl rfl)
theorem dX4_store_203 : decode cX4_store 203 = .ok (.invokevirtual 215, 3) := dk_182 0 215 (dk_at dksX4_store_8 18 rfl rfl)
theorem dX4_store_206 : decode cX4_store 206 = .ok (.iastore, 1) := dk_79 (dk_at dksX4_store_8 21 rfl rfl)
theorem dX4_store_207 : decode cX4_store 207 = .ok (.aload_n 0, 1) := dk_42 (dk_at dksX4_store_8 22 rfl rfl)
theorem dX4_store_208 : decode cX4_store 208 = .ok (.getfield 82, 3) := dk_180 0 82 (dk_at dksX4_store_9 0 rfl rfl)
theorem dX4_store_211 : decode cX4_store 211 = .ok (.iconst 2, 1) := dk_5 (dk_at dksX4_store_9 3 rfl rfl)
theorem dX4_store_212 : decode cX4_store 212 = .ok (.iconst 2, 1) := dk_5 (dk_at dksX4_store_9 4 rfl rfl)
theorem dX4_store_213 : decode cX4_store 213 = .ok (.iload 4, 2) := dk_21 4 (dk_at dksX4_store_9 5 rfl rfl)
theorem dX4_store_215 : decode cX4_store 215 = .ok (.imul, 1) := dk_104 (dk_at dksX4_store_9 7 rfl rfl)
theorem dX4_store_216 : decode cX4_store 216 = .ok (.iadd, 1) := dk_96 (dk_at dksX4_store_9 8 rfl rfl)
theorem dX4_store_217 : decode cX4_store 217 = .ok (.aload_n 0, 1) := dk_42 (dk_at dksX4_store_9 9 rfl rfl)
theorem dX4_store_218 : decode cX4_store 218 = .ok (.aload_n 0, 1) := dk_42 (dk_at dksX4_store_9 10 rfl rfl)
theorem dX4_store_219 : decode cX4_store 219 = .ok (.getfield 79, 3) := dk_180 0 79 (dk_at dksX4_store_9 11 rfl rfl)
theorem dX4_store_222 : decode cX4_store 222 = .ok (.iload 4, 2) := dk_21 4 (dk_at dksX4_store_9 14 rfl rfl)
theorem dX4_store_224 : decode cX4_store 224 = .ok (.iaload, 1) := dk_46 (dk_at dksX4_store_9 16 rfl rfl)
theorem dX4_store_225 : decode cX4_store 225 = .ok (.iconst 0, 1) := dk_3 (dk_at dksX4_store_9 17 rfl rfl)
theorem dX4_store_226 : decode cX4_store 226 = .ok (.invokevirtual 215, 3) := dk_182 0 215 (dk_at dksX4_store_9 18 rfl rfl)
theorem dX4_store_229 : decode cX4_store 229 = .ok (.iastore, 1) := dk_79 (dk_at dksX4_store_9 21 rfl rfl)
theorem dX4_store_230 : decode cX4_store 230 = .ok (.iinc 4 1, 3) := dk_132 4 1 (dk_at dksX4_store_10 0 rfl rfl)
theorem dX4_store_233 : decode cX4_store 233 = .ok (.goto (-55), 3) := dk_167 255 201 (dk_at dksX4_store_10 3 rfl rfl)
theorem dX4_store_236 : decode cX4_store 236 = .ok (.iconst 1, 1) := dk_4 (dk_at dksX4_store_10 6 rfl rfl)
theorem dX4_store_237 : decode cX4_store 237 = .ok (.ireturn, 1) := dk_172 (dk_at dksX4_store_10 7 rfl rfl)
abbrev cX4_reach : ByteArray := prog_18_method_22_code
def yX4_reach : MethodName := ⟨RX4, "reach", "(I)I"⟩
def dkwX4_reach_4 : List UInt8 := [180, 0, 73, 29, 51, 153, 0, 7, 4, 167, 0, 4, 3, 96, 61, 132, 3, 255, 167, 255, 176, 28, 172]
abbrev dktX4_reach_4 : List UInt8 := dkwX4_reach_4 ++ []
def dkwX4_reach_3 : List UInt8 := [42, 180, 0, 44, 42, 180, 0, 31, 29, 46, 21, 4, 96, 46, 4, 84, 132, 4, 1, 167, 255, 206, 28, 42]
abbrev dktX4_reach_3 : List UInt8 := dkwX4_reach_3 ++ dktX4_reach_4
def dkwX4_reach_2 : List UInt8 := [46, 42, 180, 0, 37, 29, 46, 96, 162, 0, 38, 42, 180, 0, 73, 29, 51, 153, 0, 29, 42, 180, 0, 73]
abbrev dktX4_reach_2 : List UInt8 := dkwX4_reach_2 ++ dktX4_reach_3
def dkwX4_reach_1 : List UInt8 := [132, 2, 1, 167, 255, 232, 3, 61, 27, 62, 29, 155, 0, 82, 3, 54, 4, 21, 4, 42, 180, 0, 34, 29]
abbrev dktX4_reach_1 : List UInt8 := dkwX4_reach_1 ++ dktX4_reach_2
def dkwX4_reach_0 : List UInt8 := [3, 61, 28, 27, 163, 0, 25, 42, 180, 0, 73, 28, 28, 27, 160, 0, 7, 4, 167, 0, 4, 3, 84]
abbrev dktX4_reach_0 : List UInt8 := dkwX4_reach_0 ++ dktX4_reach_1
theorem dksX4_reach_0 : cX4_reach.data.toList.drop 0 = dktX4_reach_0 := by decide +kernel
theorem dksX4_reach_1 : cX4_reach.data.toList.drop 23 = dktX4_reach_1 := dk_seg dksX4_reach_0 23 rfl rfl
theorem dksX4_reach_2 : cX4_reach.data.toList.drop 47 = dktX4_reach_2 := dk_seg dksX4_reach_1 24 rfl rfl
theorem dksX4_reach_3 : cX4_reach.data.toList.drop 71 = dktX4_reach_3 := dk_seg dksX4_reach_2 24 rfl rfl
theorem dksX4_reach_4 : cX4_reach.data.toList.drop 95 = dktX4_reach_4 := dk_seg dksX4_reach_3 24 rfl rfl
theorem dX4_reach_0 : decode cX4_reach 0 = .ok (.iconst 0, 1) := dk_3 (dk_at dksX4_reach_0 0 rfl rfl)
theorem dX4_reach_1 : decode cX4_reach 1 = .ok (.istore_n 2, 1) := dk_61 (dk_at dksX4_reach_0 1 rfl rfl)
theorem dX4_reach_2 : decode cX4_reach 2 = .ok (.iload_n 2, 1) := dk_28 (dk_at dksX4_reach_0 2 rfl rfl)
theorem dX4_reach_3 : decode cX4_reach 3 = .ok (.iload_n 1, 1) := dk_27 (dk_at dksX4_reach_0 3 rfl rfl)
theorem dX4_reach_4 : decode cX4_reach 4 = .ok (.if_icmp .gt 25, 3) := dk_163 0 25 (dk_at dksX4_reach_0 4 rfl rfl)
theorem dX4_reach_7 : decode cX4_reach 7 = .ok (.aload_n 0, 1) := dk_42 (dk_at dksX4_reach_0 7 rfl rfl)
theorem dX4_reach_8 : decode cX4_reach 8 = .ok (.getfield 73, 3) := dk_180 0 73 (dk_at dksX4_reach_0 8 rfl rfl)
theorem dX4_reach_11 : decode cX4_reach 11 = .ok (.iload_n 2, 1) := dk_28 (dk_at dksX4_reach_0 11 rfl rfl)
theorem dX4_reach_12 : decode cX4_reach 12 = .ok (.iload_n 2, 1) := dk_28 (dk_at dksX4_reach_0 12 rfl rfl)
theorem dX4_reach_13 : decode cX4_reach 13 = .ok (.iload_n 1, 1) := dk_27 (dk_at dksX4_reach_0 13 rfl rfl)
theorem dX4_reach_14 : decode cX4_reach 14 = .ok (.if_icmp .ne 7, 3) := dk_160 0 7 (dk_at dksX4_reach_0 14 rfl rfl)
theorem dX4_reach_17 : decode cX4_reach 17 = .ok (.iconst 1, 1) := dk_4 (dk_at dksX4_reach_0 17 rfl rfl)
theorem dX4_reach_18 : decode cX4_reach 18 = .ok (.goto 4, 3) := dk_167 0 4 (dk_at dksX4_reach_0 18 rfl rfl)
theorem dX4_reach_21 : decode cX4_reach 21 = .ok (.iconst 0, 1) := dk_3 (dk_at dksX4_reach_0 21 rfl rfl)
theorem dX4_reach_22 : decode cX4_reach 22 = .ok (.bastore, 1) := dk_84 (dk_at dksX4_reach_0 22 rfl rfl)
theorem dX4_reach_23 : decode cX4_reach 23 = .ok (.iinc 2 1, 3) := dk_132 2 1 (dk_at dksX4_reach_1 0 rfl rfl)
theorem dX4_reach_26 : decode cX4_reach 26 = .ok (.goto (-24), 3) := dk_167 255 232 (dk_at dksX4_reach_1 3 rfl rfl)
theorem dX4_reach_29 : decode cX4_reach 29 = .ok (.iconst 0, 1) := dk_3 (dk_at dksX4_reach_1 6 rfl rfl)
theorem dX4_reach_30 : decode cX4_reach 30 = .ok (.istore_n 2, 1) := dk_61 (dk_at dksX4_reach_1 7 rfl rfl)
theorem dX4_reach_31 : decode cX4_reach 31 = .ok (.iload_n 1, 1) := dk_27 (dk_at dksX4_reach_1 8 rfl rfl)
theorem dX4_reach_32 : decode cX4_reach 32 = .ok (.istore_n 3, 1) := dk_62 (dk_at dksX4_reach_1 9 rfl rfl)
theorem dX4_reach_33 : decode cX4_reach 33 = .ok (.iload_n 3, 1) := dk_29 (dk_at dksX4_reach_1 10 rfl rfl)
theorem dX4_reach_34 : decode cX4_reach 34 = .ok (.ifCond .lt 82, 3) := dk_155 0 82 (dk_at dksX4_reach_1 11 rfl rfl)
theorem dX4_reach_37 : decode cX4_reach 37 = .ok (.iconst 0, 1) := dk_3 (dk_at dksX4_reach_1 14 rfl rfl)
theorem dX4_reach_38 : decode cX4_reach 38 = .ok (.istore 4, 2) := dk_54 4 (dk_at dksX4_reach_1 15 rfl rfl)
theorem dX4_reach_40 : decode cX4_reach 40 = .ok (.iload 4, 2) := dk_21 4 (dk_at dksX4_reach_1 17 rfl rfl)
theorem dX4_reach_42 : decode cX4_reach 42 = .ok (.aload_n 0, 1) := dk_42 (dk_at dksX4_reach_1 19 rfl rfl)
theorem dX4_reach_43 : decode cX4_reach 43 = .ok (.getfield 34, 3) := dk_180 0 34 (dk_at dksX4_reach_1 20 rfl rfl)
theorem dX4_reach_46 : decode cX4_reach 46 = .ok (.iload_n 3, 1) := dk_29 (dk_at dksX4_reach_1 23 rfl rfl)
theorem dX4_reach_47 : decode cX4_reach 47 = .ok (.iaload, 1) := dk_46 (dk_at dksX4_reach_2 0 rfl rfl)
theorem dX4_reach_48 : decode cX4_reach 48 = .ok (.aload_n 0, 1) := dk_42 (dk_at dksX4_reach_2 1 rfl rfl)
theorem dX4_reach_49 : decode cX4_reach 49 = .ok (.getfield 37, 3) := dk_180 0 37 (dk_at dksX4_reach_2 2 rfl rfl)
theorem dX4_reach_52 : decode cX4_reach 52 = .ok (.iload_n 3, 1) := dk_29 (dk_at dksX4_reach_2 5 rfl rfl)
theorem dX4_reach_53 : decode cX4_reach 53 = .ok (.iaload, 1) := dk_46 (dk_at dksX4_reach_2 6 rfl rfl)
theorem dX4_reach_54 : decode cX4_reach 54 = .ok (.iadd, 1) := dk_96 (dk_at dksX4_reach_2 7 rfl rfl)
theorem dX4_reach_55 : decode cX4_reach 55 = .ok (.if_icmp .ge 38, 3) := dk_162 0 38 (dk_at dksX4_reach_2 8 rfl rfl)
theorem dX4_reach_58 : decode cX4_reach 58 = .ok (.aload_n 0, 1) := dk_42 (dk_at dksX4_reach_2 11 rfl rfl)
theorem dX4_reach_59 : decode cX4_reach 59 = .ok (.getfield 73, 3) := dk_180 0 73 (dk_at dksX4_reach_2 12 rfl rfl)
theorem dX4_reach_62 : decode cX4_reach 62 = .ok (.iload_n 3, 1) := dk_29 (dk_at dksX4_reach_2 15 rfl rfl)
theorem dX4_reach_63 : decode cX4_reach 63 = .ok (.baload, 1) := dk_51 (dk_at dksX4_reach_2 16 rfl rfl)
theorem dX4_reach_64 : decode cX4_reach 64 = .ok (.ifCond .eq 29, 3) := dk_153 0 29 (dk_at dksX4_reach_2 17 rfl rfl)
theorem dX4_reach_67 : decode cX4_reach 67 = .ok (.aload_n 0, 1) := dk_42 (dk_at dksX4_reach_2 20 rfl rfl)
theorem dX4_reach_68 : decode cX4_reach 68 = .ok (.getfield 73, 3) := dk_180 0 73 (dk_at dksX4_reach_2 21 rfl rfl)
theorem dX4_reach_71 : decode cX4_reach 71 = .ok (.aload_n 0, 1) := dk_42 (dk_at dksX4_reach_3 0 rfl rfl)
theorem dX4_reach_72 : decode cX4_reach 72 = .ok (.getfield 44, 3) := dk_180 0 44 (dk_at dksX4_reach_3 1 rfl rfl)
theorem dX4_reach_75 : decode cX4_reach 75 = .ok (.aload_n 0, 1) := dk_42 (dk_at dksX4_reach_3 4 rfl rfl)
theorem dX4_reach_76 : decode cX4_reach 76 = .ok (.getfield 31, 3) := dk_180 0 31 (dk_at dksX4_reach_3 5 rfl rfl)
theorem dX4_reach_79 : decode cX4_reach 79 = .ok (.iload_n 3, 1) := dk_29 (dk_at dksX4_reach_3 8 rfl rfl)
theorem dX4_reach_80 : decode cX4_reach 80 = .ok (.iaload, 1) := dk_46 (dk_at dksX4_reach_3 9 rfl rfl)
theorem dX4_reach_81 : decode cX4_reach 81 = .ok (.iload 4, 2) := dk_21 4 (dk_at dksX4_reach_3 10 rfl rfl)
theorem dX4_reach_83 : decode cX4_reach 83 = .ok (.iadd, 1) := dk_96 (dk_at dksX4_reach_3 12 rfl rfl)
theorem dX4_reach_84 : decode cX4_reach 84 = .ok (.iaload, 1) := dk_46 (dk_at dksX4_reach_3 13 rfl rfl)
theorem dX4_reach_85 : decode cX4_reach 85 = .ok (.iconst 1, 1) := dk_4 (dk_at dksX4_reach_3 14 rfl rfl)
theorem dX4_reach_86 : decode cX4_reach 86 = .ok (.bastore, 1) := dk_84 (dk_at dksX4_reach_3 15 rfl rfl)
theorem dX4_reach_87 : decode cX4_reach 87 = .ok (.iinc 4 1, 3) := dk_132 4 1 (dk_at dksX4_reach_3 16 rfl rfl)
theorem dX4_reach_90 : decode cX4_reach 90 = .ok (.goto (-50), 3) := dk_167 255 206 (dk_at dksX4_reach_3 19 rfl rfl)
theorem dX4_reach_93 : decode cX4_reach 93 = .ok (.iload_n 2, 1) := dk_28 (dk_at dksX4_reach_3 22 rfl rfl)
theorem dX4_reach_94 : decode cX4_reach 94 = .ok (.aload_n 0, 1) := dk_42 (dk_at dksX4_reach_3 23 rfl rfl)
theorem dX4_reach_95 : decode cX4_reach 95 = .ok (.getfield 73, 3) := dk_180 0 73 (dk_at dksX4_reach_4 0 rfl rfl)
theorem dX4_reach_98 : decode cX4_reach 98 = .ok (.iload_n 3, 1) := dk_29 (dk_at dksX4_reach_4 3 rfl rfl)
theorem dX4_reach_99 : decode cX4_reach 99 = .ok (.baload, 1) := dk_51 (dk_at dksX4_reach_4 4 rfl rfl)
theorem dX4_reach_100 : decode cX4_reach 100 = .ok (.ifCond .eq 7, 3) := dk_153 0 7 (dk_at dksX4_reach_4 5 rfl rfl)
theorem dX4_reach_103 : decode cX4_reach 103 = .ok (.iconst 1, 1) := dk_4 (dk_at dksX4_reach_4 8 rfl rfl)
theorem dX4_reach_104 : decode cX4_reach 104 = .ok (.goto 4, 3) := dk_167 0 4 (dk_at dksX4_reach_4 9 rfl rfl)
theorem dX4_reach_107 : decode cX4_reach 107 = .ok (.iconst 0, 1) := dk_3 (dk_at dksX4_reach_4 12 rfl rfl)
theorem dX4_reach_108 : decode cX4_reach 108 = .ok (.iadd, 1) := dk_96 (dk_at dksX4_reach_4 13 rfl rfl)
theorem dX4_reach_109 : decode cX4_reach 109 = .ok (.istore_n 2, 1) := dk_61 (dk_at dksX4_reach_4 14 rfl rfl)
theorem dX4_reach_110 : decode cX4_reach 110 = .ok (.iinc 3 (-1), 3) := dk_132 3 255 (dk_at dksX4_reach_4 15 rfl rfl)
theorem dX4_reach_113 : decode cX4_reach 113 = .ok (.goto (-80), 3) := dk_167 255 176 (dk_at dksX4_reach_4 18 rfl rfl)
theorem dX4_reach_116 : decode cX4_reach 116 = .ok (.iload_n 2, 1) := dk_28 (dk_at dksX4_reach_4 21 rfl rfl)
theorem dX4_reach_117 : decode cX4_reach 117 = .ok (.ireturn, 1) := dk_172 (dk_at dksX4_reach_4 22 rfl rfl)
abbrev cX4_isAhead : ByteArray := prog_18_method_25_code
def yX4_isAhead : MethodName := ⟨RX4, "isAhead", "(II)Z"⟩
def dkwX4_isAhead_1 : List UInt8 := [42, 27, 3, 182, 0, 215, 42, 28, 3, 182, 0, 215, 184, 0, 218, 156, 0, 7, 4, 167, 0, 4, 3, 172]
abbrev dktX4_isAhead_1 : List UInt8 := dkwX4_isAhead_1 ++ []
def dkwX4_isAhead_0 : List UInt8 := [42, 27, 4, 182, 0, 215, 42, 28, 4, 182, 0, 215, 184, 0, 218, 62, 29, 155, 0, 25, 29, 154, 0, 25]
abbrev dktX4_isAhead_0 : List UInt8 := dkwX4_isAhead_0 ++ dktX4_isAhead_1
theorem dksX4_isAhead_0 : cX4_isAhead.data.toList.drop 0 = dktX4_isAhead_0 := by decide +kernel
theorem dksX4_isAhead_1 : cX4_isAhead.data.toList.drop 24 = dktX4_isAhead_1 := dk_seg dksX4_isAhead_0 24 rfl rfl
theorem dX4_isAhead_0 : decode cX4_isAhead 0 = .ok (.aload_n 0, 1) := dk_42 (dk_at dksX4_isAhead_0 0 rfl rfl)
theorem dX4_isAhead_1 : decode cX4_isAhead 1 = .ok (.iload_n 1, 1) := dk_27 (dk_at dksX4_isAhead_0 1 rfl rfl)
theorem dX4_isAhead_2 : decode cX4_isAhead 2 = .ok (.iconst 1, 1) := dk_4 (dk_at dksX4_isAhead_0 2 rfl rfl)
theorem dX4_isAhead_3 : decode cX4_isAhead 3 = .ok (.invokevirtual 215, 3) := dk_182 0 215 (dk_at dksX4_isAhead_0 3 rfl rfl)
theorem dX4_isAhead_6 : decode cX4_isAhead 6 = .ok (.aload_n 0, 1) := dk_42 (dk_at dksX4_isAhead_0 6 rfl rfl)
theorem dX4_isAhead_7 : decode cX4_isAhead 7 = .ok (.iload_n 2, 1) := dk_28 (dk_at dksX4_isAhead_0 7 rfl rfl)
theorem dX4_isAhead_8 : decode cX4_isAhead 8 = .ok (.iconst 1, 1) := dk_4 (dk_at dksX4_isAhead_0 8 rfl rfl)
theorem dX4_isAhead_9 : decode cX4_isAhead 9 = .ok (.invokevirtual 215, 3) := dk_182 0 215 (dk_at dksX4_isAhead_0 9 rfl rfl)
theorem dX4_isAhead_12 : decode cX4_isAhead 12 = .ok (.invokestatic 218, 3) := dk_184 0 218 (dk_at dksX4_isAhead_0 12 rfl rfl)
theorem dX4_isAhead_15 : decode cX4_isAhead 15 = .ok (.istore_n 3, 1) := dk_62 (dk_at dksX4_isAhead_0 15 rfl rfl)
theorem dX4_isAhead_16 : decode cX4_isAhead 16 = .ok (.iload_n 3, 1) := dk_29 (dk_at dksX4_isAhead_0 16 rfl rfl)
theorem dX4_isAhead_17 : decode cX4_isAhead 17 = .ok (.ifCond .lt 25, 3) := dk_155 0 25 (dk_at dksX4_isAhead_0 17 rfl rfl)
theorem dX4_isAhead_20 : decode cX4_isAhead 20 = .ok (.iload_n 3, 1) := dk_29 (dk_at dksX4_isAhead_0 20 rfl rfl)
theorem dX4_isAhead_21 : decode cX4_isAhead 21 = .ok (.ifCond .ne 25, 3) := dk_154 0 25 (dk_at dksX4_isAhead_0 21 rfl rfl)
theorem dX4_isAhead_24 : decode cX4_isAhead 24 = .ok (.aload_n 0, 1) := dk_42 (dk_at dksX4_isAhead_1 0 rfl rfl)
theorem dX4_isAhead_25 : decode cX4_isAhead 25 = .ok (.iload_n 1, 1) := dk_27 (dk_at dksX4_isAhead_1 1 rfl rfl)
theorem dX4_isAhead_26 : decode cX4_isAhead 26 = .ok (.iconst 0, 1) := dk_3 (dk_at dksX4_isAhead_1 2 rfl rfl)
theorem dX4_isAhead_27 : decode cX4_isAhead 27 = .ok (.invokevirtual 215, 3) := dk_182 0 215 (dk_at dksX4_isAhead_1 3 rfl rfl)
theorem dX4_isAhead_30 : decode cX4_isAhead 30 = .ok (.aload_n 0, 1) := dk_42 (dk_at dksX4_isAhead_1 6 rfl rfl)
theorem dX4_isAhead_31 : decode cX4_isAhead 31 = .ok (.iload_n 2, 1) := dk_28 (dk_at dksX4_isAhead_1 7 rfl rfl)
theorem dX4_isAhead_32 : decode cX4_isAhead 32 = .ok (.iconst 0, 1) := dk_3 (dk_at dksX4_isAhead_1 8 rfl rfl)
theorem dX4_isAhead_33 : decode cX4_isAhead 33 = .ok (.invokevirtual 215, 3) := dk_182 0 215 (dk_at dksX4_isAhead_1 9 rfl rfl)
theorem dX4_isAhead_36 : decode cX4_isAhead 36 = .ok (.invokestatic 218, 3) := dk_184 0 218 (dk_at dksX4_isAhead_1 12 rfl rfl)
theorem dX4_isAhead_39 : decode cX4_isAhead 39 = .ok (.ifCond .ge 7, 3) := dk_156 0 7 (dk_at dksX4_isAhead_1 15 rfl rfl)
theorem dX4_isAhead_42 : decode cX4_isAhead 42 = .ok (.iconst 1, 1) := dk_4 (dk_at dksX4_isAhead_1 18 rfl rfl)
theorem dX4_isAhead_43 : decode cX4_isAhead 43 = .ok (.goto 4, 3) := dk_167 0 4 (dk_at dksX4_isAhead_1 19 rfl rfl)
theorem dX4_isAhead_46 : decode cX4_isAhead 46 = .ok (.iconst 0, 1) := dk_3 (dk_at dksX4_isAhead_1 22 rfl rfl)
theorem dX4_isAhead_47 : decode cX4_isAhead 47 = .ok (.ireturn, 1) := dk_172 (dk_at dksX4_isAhead_1 23 rfl rfl)
abbrev cX4_bits : ByteArray := prog_18_method_23_code
def yX4_bits : MethodName := ⟨RX4, "bits", "(IZ)I"⟩
def dkwX4_bits_2 : List UInt8 := [167, 0, 10, 42, 27, 21, 4, 182, 0, 192, 46, 120, 128, 62, 132, 4, 1, 167, 255, 198, 29, 172]
abbrev dktX4_bits_2 : List UInt8 := dkwX4_bits_2 ++ []
def dkwX4_bits_1 : List UInt8 := [27, 46, 162, 0, 40, 29, 4, 42, 180, 0, 76, 28, 153, 0, 13, 42, 27, 21, 4, 182, 0, 184]
abbrev dktX4_bits_1 : List UInt8 := dkwX4_bits_1 ++ dktX4_bits_2
def dkwX4_bits_0 : List UInt8 := [3, 62, 3, 54, 4, 21, 4, 28, 153, 0, 12, 42, 180, 0, 34, 27, 46, 167, 0, 9, 42, 180, 0, 37]
abbrev dktX4_bits_0 : List UInt8 := dkwX4_bits_0 ++ dktX4_bits_1
theorem dksX4_bits_0 : cX4_bits.data.toList.drop 0 = dktX4_bits_0 := by decide +kernel
theorem dksX4_bits_1 : cX4_bits.data.toList.drop 24 = dktX4_bits_1 := dk_seg dksX4_bits_0 24 rfl rfl
theorem dksX4_bits_2 : cX4_bits.data.toList.drop 46 = dktX4_bits_2 := dk_seg dksX4_bits_1 22 rfl rfl
theorem dX4_bits_0 : decode cX4_bits 0 = .ok (.iconst 0, 1) := dk_3 (dk_at dksX4_bits_0 0 rfl rfl)
theorem dX4_bits_1 : decode cX4_bits 1 = .ok (.istore_n 3, 1) := dk_62 (dk_at dksX4_bits_0 1 rfl rfl)
theorem dX4_bits_2 : decode cX4_bits 2 = .ok (.iconst 0, 1) := dk_3 (dk_at dksX4_bits_0 2 rfl rfl)
theorem dX4_bits_3 : decode cX4_bits 3 = .ok (.istore 4, 2) := dk_54 4 (dk_at dksX4_bits_0 3 rfl rfl)
theorem dX4_bits_5 : decode cX4_bits 5 = .ok (.iload 4, 2) := dk_21 4 (dk_at dksX4_bits_0 5 rfl rfl)
theorem dX4_bits_7 : decode cX4_bits 7 = .ok (.iload_n 2, 1) := dk_28 (dk_at dksX4_bits_0 7 rfl rfl)
theorem dX4_bits_8 : decode cX4_bits 8 = .ok (.ifCond .eq 12, 3) := dk_153 0 12 (dk_at dksX4_bits_0 8 rfl rfl)
theorem dX4_bits_11 : decode cX4_bits 11 = .ok (.aload_n 0, 1) := dk_42 (dk_at dksX4_bits_0 11 rfl rfl)
theorem dX4_bits_12 : decode cX4_bits 12 = .ok (.getfield 34, 3) := dk_180 0 34 (dk_at dksX4_bits_0 12 rfl rfl)
theorem dX4_bits_15 : decode cX4_bits 15 = .ok (.iload_n 1, 1) := dk_27 (dk_at dksX4_bits_0 15 rfl rfl)
theorem dX4_bits_16 : decode cX4_bits 16 = .ok (.iaload, 1) := dk_46 (dk_at dksX4_bits_0 16 rfl rfl)
theorem dX4_bits_17 : decode cX4_bits 17 = .ok (.goto 9, 3) := dk_167 0 9 (dk_at dksX4_bits_0 17 rfl rfl)
theorem dX4_bits_20 : decode cX4_bits 20 = .ok (.aload_n 0, 1) := dk_42 (dk_at dksX4_bits_0 20 rfl rfl)
theorem dX4_bits_21 : decode cX4_bits 21 = .ok (.getfield 37, 3) := dk_180 0 37 (dk_at dksX4_bits_0 21 rfl rfl)
theorem dX4_bits_24 : decode cX4_bits 24 = .ok (.iload_n 1, 1) := dk_27 (dk_at dksX4_bits_1 0 rfl rfl)
theorem dX4_bits_25 : decode cX4_bits 25 = .ok (.iaload, 1) := dk_46 (dk_at dksX4_bits_1 1 rfl rfl)
theorem dX4_bits_26 : decode cX4_bits 26 = .ok (.if_icmp .ge 40, 3) := dk_162 0 40 (dk_at dksX4_bits_1 2 rfl rfl)
theorem dX4_bits_29 : decode cX4_bits 29 = .ok (.iload_n 3, 1) := dk_29 (dk_at dksX4_bits_1 5 rfl rfl)
theorem dX4_bits_30 : decode cX4_bits 30 = .ok (.iconst 1, 1) := dk_4 (dk_at dksX4_bits_1 6 rfl rfl)
theorem dX4_bits_31 : decode cX4_bits 31 = .ok (.aload_n 0, 1) := dk_42 (dk_at dksX4_bits_1 7 rfl rfl)
theorem dX4_bits_32 : decode cX4_bits 32 = .ok (.getfield 76, 3) := dk_180 0 76 (dk_at dksX4_bits_1 8 rfl rfl)
theorem dX4_bits_35 : decode cX4_bits 35 = .ok (.iload_n 2, 1) := dk_28 (dk_at dksX4_bits_1 11 rfl rfl)
theorem dX4_bits_36 : decode cX4_bits 36 = .ok (.ifCond .eq 13, 3) := dk_153 0 13 (dk_at dksX4_bits_1 12 rfl rfl)
theorem dX4_bits_39 : decode cX4_bits 39 = .ok (.aload_n 0, 1) := dk_42 (dk_at dksX4_bits_1 15 rfl rfl)
theorem dX4_bits_40 : decode cX4_bits 40 = .ok (.iload_n 1, 1) := dk_27 (dk_at dksX4_bits_1 16 rfl rfl)
theorem dX4_bits_41 : decode cX4_bits 41 = .ok (.iload 4, 2) := dk_21 4 (dk_at dksX4_bits_1 17 rfl rfl)
theorem dX4_bits_43 : decode cX4_bits 43 = .ok (.invokevirtual 184, 3) := dk_182 0 184 (dk_at dksX4_bits_1 19 rfl rfl)
theorem dX4_bits_46 : decode cX4_bits 46 = .ok (.goto 10, 3) := dk_167 0 10 (dk_at dksX4_bits_2 0 rfl rfl)
theorem dX4_bits_49 : decode cX4_bits 49 = .ok (.aload_n 0, 1) := dk_42 (dk_at dksX4_bits_2 3 rfl rfl)
theorem dX4_bits_50 : decode cX4_bits 50 = .ok (.iload_n 1, 1) := dk_27 (dk_at dksX4_bits_2 4 rfl rfl)
theorem dX4_bits_51 : decode cX4_bits 51 = .ok (.iload 4, 2) := dk_21 4 (dk_at dksX4_bits_2 5 rfl rfl)
theorem dX4_bits_53 : decode cX4_bits 53 = .ok (.invokevirtual 192, 3) := dk_182 0 192 (dk_at dksX4_bits_2 7 rfl rfl)
theorem dX4_bits_56 : decode cX4_bits 56 = .ok (.iaload, 1) := dk_46 (dk_at dksX4_bits_2 10 rfl rfl)
theorem dX4_bits_57 : decode cX4_bits 57 = .ok (.ishl, 1) := dk_120 (dk_at dksX4_bits_2 11 rfl rfl)
theorem dX4_bits_58 : decode cX4_bits 58 = .ok (.ior, 1) := dk_128 (dk_at dksX4_bits_2 12 rfl rfl)
theorem dX4_bits_59 : decode cX4_bits 59 = .ok (.istore_n 3, 1) := dk_62 (dk_at dksX4_bits_2 13 rfl rfl)
theorem dX4_bits_60 : decode cX4_bits 60 = .ok (.iinc 4 1, 3) := dk_132 4 1 (dk_at dksX4_bits_2 14 rfl rfl)
theorem dX4_bits_63 : decode cX4_bits 63 = .ok (.goto (-58), 3) := dk_167 255 198 (dk_at dksX4_bits_2 17 rfl rfl)
theorem dX4_bits_66 : decode cX4_bits 66 = .ok (.iload_n 3, 1) := dk_29 (dk_at dksX4_bits_2 20 rfl rfl)
theorem dX4_bits_67 : decode cX4_bits 67 = .ok (.ireturn, 1) := dk_172 (dk_at dksX4_bits_2 21 rfl rfl)
abbrev cX4_compareLists : ByteArray := prog_18_method_24_code
def yX4_compareLists : MethodName := ⟨RX4, "compareLists", "(II)I"⟩
def dkwX4_compareLists_2 : List UInt8 := [26, 29, 126, 153, 0, 7, 4, 167, 0, 4, 3, 21, 5, 160, 0, 7, 4, 167, 0, 4, 2, 172]
abbrev dktX4_compareLists_2 : List UInt8 := dkwX4_compareLists_2 ++ []
def dkwX4_compareLists_1 : List UInt8 := [167, 0, 4, 26, 54, 4, 21, 4, 29, 4, 100, 2, 130, 126, 154, 0, 7, 4, 167, 0, 4, 3, 54, 5]
abbrev dktX4_compareLists_1 : List UInt8 := dkwX4_compareLists_1 ++ dktX4_compareLists_2
def dkwX4_compareLists_0 : List UInt8 := [26, 27, 130, 61, 28, 154, 0, 5, 3, 172, 28, 28, 116, 126, 62, 26, 29, 126, 153, 0, 7, 27]
abbrev dktX4_compareLists_0 : List UInt8 := dkwX4_compareLists_0 ++ dktX4_compareLists_1
theorem dksX4_compareLists_0 : cX4_compareLists.data.toList.drop 0 = dktX4_compareLists_0 := by decide +kernel
theorem dksX4_compareLists_1 : cX4_compareLists.data.toList.drop 22 = dktX4_compareLists_1 := dk_seg dksX4_compareLists_0 22 rfl rfl
theorem dksX4_compareLists_2 : cX4_compareLists.data.toList.drop 46 = dktX4_compareLists_2 := dk_seg dksX4_compareLists_1 24 rfl rfl
theorem dX4_compareLists_0 : decode cX4_compareLists 0 = .ok (.iload_n 0, 1) := dk_26 (dk_at dksX4_compareLists_0 0 rfl rfl)
theorem dX4_compareLists_1 : decode cX4_compareLists 1 = .ok (.iload_n 1, 1) := dk_27 (dk_at dksX4_compareLists_0 1 rfl rfl)
theorem dX4_compareLists_2 : decode cX4_compareLists 2 = .ok (.ixor, 1) := dk_130 (dk_at dksX4_compareLists_0 2 rfl rfl)
theorem dX4_compareLists_3 : decode cX4_compareLists 3 = .ok (.istore_n 2, 1) := dk_61 (dk_at dksX4_compareLists_0 3 rfl rfl)
theorem dX4_compareLists_4 : decode cX4_compareLists 4 = .ok (.iload_n 2, 1) := dk_28 (dk_at dksX4_compareLists_0 4 rfl rfl)
theorem dX4_compareLists_5 : decode cX4_compareLists 5 = .ok (.ifCond .ne 5, 3) := dk_154 0 5 (dk_at dksX4_compareLists_0 5 rfl rfl)
theorem dX4_compareLists_8 : decode cX4_compareLists 8 = .ok (.iconst 0, 1) := dk_3 (dk_at dksX4_compareLists_0 8 rfl rfl)
theorem dX4_compareLists_9 : decode cX4_compareLists 9 = .ok (.ireturn, 1) := dk_172 (dk_at dksX4_compareLists_0 9 rfl rfl)
theorem dX4_compareLists_10 : decode cX4_compareLists 10 = .ok (.iload_n 2, 1) := dk_28 (dk_at dksX4_compareLists_0 10 rfl rfl)
theorem dX4_compareLists_11 : decode cX4_compareLists 11 = .ok (.iload_n 2, 1) := dk_28 (dk_at dksX4_compareLists_0 11 rfl rfl)
theorem dX4_compareLists_12 : decode cX4_compareLists 12 = .ok (.ineg, 1) := dk_116 (dk_at dksX4_compareLists_0 12 rfl rfl)
theorem dX4_compareLists_13 : decode cX4_compareLists 13 = .ok (.iand, 1) := dk_126 (dk_at dksX4_compareLists_0 13 rfl rfl)
theorem dX4_compareLists_14 : decode cX4_compareLists 14 = .ok (.istore_n 3, 1) := dk_62 (dk_at dksX4_compareLists_0 14 rfl rfl)
theorem dX4_compareLists_15 : decode cX4_compareLists 15 = .ok (.iload_n 0, 1) := dk_26 (dk_at dksX4_compareLists_0 15 rfl rfl)
theorem dX4_compareLists_16 : decode cX4_compareLists 16 = .ok (.iload_n 3, 1) := dk_29 (dk_at dksX4_compareLists_0 16 rfl rfl)
theorem dX4_compareLists_17 : decode cX4_compareLists 17 = .ok (.iand, 1) := dk_126 (dk_at dksX4_compareLists_0 17 rfl rfl)
theorem dX4_compareLists_18 : decode cX4_compareLists 18 = .ok (.ifCond .eq 7, 3) := dk_153 0 7 (dk_at dksX4_compareLists_0 18 rfl rfl)
theorem dX4_compareLists_21 : decode cX4_compareLists 21 = .ok (.iload_n 1, 1) := dk_27 (dk_at dksX4_compareLists_0 21 rfl rfl)
theorem dX4_compareLists_22 : decode cX4_compareLists 22 = .ok (.goto 4, 3) := dk_167 0 4 (dk_at dksX4_compareLists_1 0 rfl rfl)
theorem dX4_compareLists_25 : decode cX4_compareLists 25 = .ok (.iload_n 0, 1) := dk_26 (dk_at dksX4_compareLists_1 3 rfl rfl)
theorem dX4_compareLists_26 : decode cX4_compareLists 26 = .ok (.istore 4, 2) := dk_54 4 (dk_at dksX4_compareLists_1 4 rfl rfl)
theorem dX4_compareLists_28 : decode cX4_compareLists 28 = .ok (.iload 4, 2) := dk_21 4 (dk_at dksX4_compareLists_1 6 rfl rfl)
theorem dX4_compareLists_30 : decode cX4_compareLists 30 = .ok (.iload_n 3, 1) := dk_29 (dk_at dksX4_compareLists_1 8 rfl rfl)
theorem dX4_compareLists_31 : decode cX4_compareLists 31 = .ok (.iconst 1, 1) := dk_4 (dk_at dksX4_compareLists_1 9 rfl rfl)
theorem dX4_compareLists_32 : decode cX4_compareLists 32 = .ok (.isub, 1) := dk_100 (dk_at dksX4_compareLists_1 10 rfl rfl)
theorem dX4_compareLists_33 : decode cX4_compareLists 33 = .ok (.iconst (-1), 1) := dk_2 (dk_at dksX4_compareLists_1 11 rfl rfl)
theorem dX4_compareLists_34 : decode cX4_compareLists 34 = .ok (.ixor, 1) := dk_130 (dk_at dksX4_compareLists_1 12 rfl rfl)
theorem dX4_compareLists_35 : decode cX4_compareLists 35 = .ok (.iand, 1) := dk_126 (dk_at dksX4_compareLists_1 13 rfl rfl)
theorem dX4_compareLists_36 : decode cX4_compareLists 36 = .ok (.ifCond .ne 7, 3) := dk_154 0 7 (dk_at dksX4_compareLists_1 14 rfl rfl)
theorem dX4_compareLists_39 : decode cX4_compareLists 39 = .ok (.iconst 1, 1) := dk_4 (dk_at dksX4_compareLists_1 17 rfl rfl)
theorem dX4_compareLists_40 : decode cX4_compareLists 40 = .ok (.goto 4, 3) := dk_167 0 4 (dk_at dksX4_compareLists_1 18 rfl rfl)
theorem dX4_compareLists_43 : decode cX4_compareLists 43 = .ok (.iconst 0, 1) := dk_3 (dk_at dksX4_compareLists_1 21 rfl rfl)
theorem dX4_compareLists_44 : decode cX4_compareLists 44 = .ok (.istore 5, 2) := dk_54 5 (dk_at dksX4_compareLists_1 22 rfl rfl)
theorem dX4_compareLists_46 : decode cX4_compareLists 46 = .ok (.iload_n 0, 1) := dk_26 (dk_at dksX4_compareLists_2 0 rfl rfl)
theorem dX4_compareLists_47 : decode cX4_compareLists 47 = .ok (.iload_n 3, 1) := dk_29 (dk_at dksX4_compareLists_2 1 rfl rfl)
theorem dX4_compareLists_48 : decode cX4_compareLists 48 = .ok (.iand, 1) := dk_126 (dk_at dksX4_compareLists_2 2 rfl rfl)
theorem dX4_compareLists_49 : decode cX4_compareLists 49 = .ok (.ifCond .eq 7, 3) := dk_153 0 7 (dk_at dksX4_compareLists_2 3 rfl rfl)
theorem dX4_compareLists_52 : decode cX4_compareLists 52 = .ok (.iconst 1, 1) := dk_4 (dk_at dksX4_compareLists_2 6 rfl rfl)
theorem dX4_compareLists_53 : decode cX4_compareLists 53 = .ok (.goto 4, 3) := dk_167 0 4 (dk_at dksX4_compareLists_2 7 rfl rfl)
theorem dX4_compareLists_56 : decode cX4_compareLists 56 = .ok (.iconst 0, 1) := dk_3 (dk_at dksX4_compareLists_2 10 rfl rfl)
theorem dX4_compareLists_57 : decode cX4_compareLists 57 = .ok (.iload 5, 2) := dk_21 5 (dk_at dksX4_compareLists_2 11 rfl rfl)
theorem dX4_compareLists_59 : decode cX4_compareLists 59 = .ok (.if_icmp .ne 7, 3) := dk_160 0 7 (dk_at dksX4_compareLists_2 13 rfl rfl)
theorem dX4_compareLists_62 : decode cX4_compareLists 62 = .ok (.iconst 1, 1) := dk_4 (dk_at dksX4_compareLists_2 16 rfl rfl)
theorem dX4_compareLists_63 : decode cX4_compareLists 63 = .ok (.goto 4, 3) := dk_167 0 4 (dk_at dksX4_compareLists_2 17 rfl rfl)
theorem dX4_compareLists_66 : decode cX4_compareLists 66 = .ok (.iconst (-1), 1) := dk_2 (dk_at dksX4_compareLists_2 20 rfl rfl)
theorem dX4_compareLists_67 : decode cX4_compareLists 67 = .ok (.ireturn, 1) := dk_172 (dk_at dksX4_compareLists_2 21 rfl rfl)
abbrev cX4_setNumber : ByteArray := prog_18_method_47_code
def yX4_setNumber : MethodName := ⟨RX4, "setNumber", "(III)I"⟩
def dkwX4_setNumber_3 : List UInt8 := [172]
abbrev dktX4_setNumber_3 : List UInt8 := dkwX4_setNumber_3 ++ []
def dkwX4_setNumber_2 : List UInt8 := [121, 182, 1, 38, 154, 0, 7, 19, 1, 42, 172, 42, 27, 182, 1, 43, 42, 180, 0, 82, 3, 46, 4, 100]
abbrev dktX4_setNumber_2 : List UInt8 := dkwX4_setNumber_2 ++ dktX4_setNumber_3
def dkwX4_setNumber_1 : List UInt8 := [153, 0, 13, 29, 3, 16, 10, 184, 0, 153, 154, 0, 7, 19, 1, 37, 172, 42, 28, 133, 16, 40, 29, 100]
abbrev dktX4_setNumber_1 : List UInt8 := dkwX4_setNumber_1 ++ dktX4_setNumber_2
def dkwX4_setNumber_0 : List UInt8 := [42, 3, 181, 0, 146, 27, 184, 1, 34, 153, 0, 26, 28, 17, 252, 24, 17, 3, 232, 184, 0, 153]
abbrev dktX4_setNumber_0 : List UInt8 := dkwX4_setNumber_0 ++ dktX4_setNumber_1
theorem dksX4_setNumber_0 : cX4_setNumber.data.toList.drop 0 = dktX4_setNumber_0 := by decide +kernel
theorem dksX4_setNumber_1 : cX4_setNumber.data.toList.drop 22 = dktX4_setNumber_1 := dk_seg dksX4_setNumber_0 22 rfl rfl
theorem dksX4_setNumber_2 : cX4_setNumber.data.toList.drop 46 = dktX4_setNumber_2 := dk_seg dksX4_setNumber_1 24 rfl rfl
theorem dksX4_setNumber_3 : cX4_setNumber.data.toList.drop 70 = dktX4_setNumber_3 := dk_seg dksX4_setNumber_2 24 rfl rfl
theorem dX4_setNumber_0 : decode cX4_setNumber 0 = .ok (.aload_n 0, 1) := dk_42 (dk_at dksX4_setNumber_0 0 rfl rfl)
theorem dX4_setNumber_1 : decode cX4_setNumber 1 = .ok (.iconst 0, 1) := dk_3 (dk_at dksX4_setNumber_0 1 rfl rfl)
theorem dX4_setNumber_2 : decode cX4_setNumber 2 = .ok (.putfield 146, 3) := dk_181 0 146 (dk_at dksX4_setNumber_0 2 rfl rfl)
theorem dX4_setNumber_5 : decode cX4_setNumber 5 = .ok (.iload_n 1, 1) := dk_27 (dk_at dksX4_setNumber_0 5 rfl rfl)
theorem dX4_setNumber_6 : decode cX4_setNumber 6 = .ok (.invokestatic 290, 3) := dk_184 1 34 (dk_at dksX4_setNumber_0 6 rfl rfl)
theorem dX4_setNumber_9 : decode cX4_setNumber 9 = .ok (.ifCond .eq 26, 3) := dk_153 0 26 (dk_at dksX4_setNumber_0 9 rfl rfl)
theorem dX4_setNumber_12 : decode cX4_setNumber 12 = .ok (.iload_n 2, 1) := dk_28 (dk_at dksX4_setNumber_0 12 rfl rfl)
theorem dX4_setNumber_13 : decode cX4_setNumber 13 = .ok (.sipush (-1000), 3) := dk_17 252 24 (dk_at dksX4_setNumber_0 13 rfl rfl)
theorem dX4_setNumber_16 : decode cX4_setNumber 16 = .ok (.sipush 1000, 3) := dk_17 3 232 (dk_at dksX4_setNumber_0 16 rfl rfl)
theorem dX4_setNumber_19 : decode cX4_setNumber 19 = .ok (.invokestatic 153, 3) := dk_184 0 153 (dk_at dksX4_setNumber_0 19 rfl rfl)
theorem dX4_setNumber_22 : decode cX4_setNumber 22 = .ok (.ifCond .eq 13, 3) := dk_153 0 13 (dk_at dksX4_setNumber_1 0 rfl rfl)
theorem dX4_setNumber_25 : decode cX4_setNumber 25 = .ok (.iload_n 3, 1) := dk_29 (dk_at dksX4_setNumber_1 3 rfl rfl)
theorem dX4_setNumber_26 : decode cX4_setNumber 26 = .ok (.iconst 0, 1) := dk_3 (dk_at dksX4_setNumber_1 4 rfl rfl)
theorem dX4_setNumber_27 : decode cX4_setNumber 27 = .ok (.bipush 10, 2) := dk_16 10 (dk_at dksX4_setNumber_1 5 rfl rfl)
theorem dX4_setNumber_29 : decode cX4_setNumber 29 = .ok (.invokestatic 153, 3) := dk_184 0 153 (dk_at dksX4_setNumber_1 7 rfl rfl)
theorem dX4_setNumber_32 : decode cX4_setNumber 32 = .ok (.ifCond .ne 7, 3) := dk_154 0 7 (dk_at dksX4_setNumber_1 10 rfl rfl)
theorem dX4_setNumber_35 : decode cX4_setNumber 35 = .ok (.ldc_w 293, 3) := dk_19 1 37 (dk_at dksX4_setNumber_1 13 rfl rfl)
theorem dX4_setNumber_38 : decode cX4_setNumber 38 = .ok (.ireturn, 1) := dk_172 (dk_at dksX4_setNumber_1 16 rfl rfl)
theorem dX4_setNumber_39 : decode cX4_setNumber 39 = .ok (.aload_n 0, 1) := dk_42 (dk_at dksX4_setNumber_1 17 rfl rfl)
theorem dX4_setNumber_40 : decode cX4_setNumber 40 = .ok (.iload_n 2, 1) := dk_28 (dk_at dksX4_setNumber_1 18 rfl rfl)
theorem dX4_setNumber_41 : decode cX4_setNumber 41 = .ok (.i2l, 1) := dk_133 (dk_at dksX4_setNumber_1 19 rfl rfl)
theorem dX4_setNumber_42 : decode cX4_setNumber 42 = .ok (.bipush 40, 2) := dk_16 40 (dk_at dksX4_setNumber_1 20 rfl rfl)
theorem dX4_setNumber_44 : decode cX4_setNumber 44 = .ok (.iload_n 3, 1) := dk_29 (dk_at dksX4_setNumber_1 22 rfl rfl)
theorem dX4_setNumber_45 : decode cX4_setNumber 45 = .ok (.isub, 1) := dk_100 (dk_at dksX4_setNumber_1 23 rfl rfl)
theorem dX4_setNumber_46 : decode cX4_setNumber 46 = .ok (.lshl, 1) := dk_121 (dk_at dksX4_setNumber_2 0 rfl rfl)
theorem dX4_setNumber_47 : decode cX4_setNumber 47 = .ok (.invokevirtual 294, 3) := dk_182 1 38 (dk_at dksX4_setNumber_2 1 rfl rfl)
theorem dX4_setNumber_50 : decode cX4_setNumber 50 = .ok (.ifCond .ne 7, 3) := dk_154 0 7 (dk_at dksX4_setNumber_2 4 rfl rfl)
theorem dX4_setNumber_53 : decode cX4_setNumber 53 = .ok (.ldc_w 298, 3) := dk_19 1 42 (dk_at dksX4_setNumber_2 7 rfl rfl)
theorem dX4_setNumber_56 : decode cX4_setNumber 56 = .ok (.ireturn, 1) := dk_172 (dk_at dksX4_setNumber_2 10 rfl rfl)
theorem dX4_setNumber_57 : decode cX4_setNumber 57 = .ok (.aload_n 0, 1) := dk_42 (dk_at dksX4_setNumber_2 11 rfl rfl)
theorem dX4_setNumber_58 : decode cX4_setNumber 58 = .ok (.iload_n 1, 1) := dk_27 (dk_at dksX4_setNumber_2 12 rfl rfl)
theorem dX4_setNumber_59 : decode cX4_setNumber 59 = .ok (.invokevirtual 299, 3) := dk_182 1 43 (dk_at dksX4_setNumber_2 13 rfl rfl)
theorem dX4_setNumber_62 : decode cX4_setNumber 62 = .ok (.aload_n 0, 1) := dk_42 (dk_at dksX4_setNumber_2 16 rfl rfl)
theorem dX4_setNumber_63 : decode cX4_setNumber 63 = .ok (.getfield 82, 3) := dk_180 0 82 (dk_at dksX4_setNumber_2 17 rfl rfl)
theorem dX4_setNumber_66 : decode cX4_setNumber 66 = .ok (.iconst 0, 1) := dk_3 (dk_at dksX4_setNumber_2 20 rfl rfl)
theorem dX4_setNumber_67 : decode cX4_setNumber 67 = .ok (.iaload, 1) := dk_46 (dk_at dksX4_setNumber_2 21 rfl rfl)
theorem dX4_setNumber_68 : decode cX4_setNumber 68 = .ok (.iconst 1, 1) := dk_4 (dk_at dksX4_setNumber_2 22 rfl rfl)
theorem dX4_setNumber_69 : decode cX4_setNumber 69 = .ok (.isub, 1) := dk_100 (dk_at dksX4_setNumber_2 23 rfl rfl)
theorem dX4_setNumber_70 : decode cX4_setNumber 70 = .ok (.ireturn, 1) := dk_172 (dk_at dksX4_setNumber_3 0 rfl rfl)
abbrev cX4_isSlot : ByteArray := prog_18_method_4_code
def yX4_isSlot : MethodName := ⟨RX4, "isSlot", "(I)Z"⟩
def dkwX4_isSlot_0 : List UInt8 := [26, 3, 16, 11, 184, 0, 153, 172]
abbrev dktX4_isSlot_0 : List UInt8 := dkwX4_isSlot_0 ++ []
theorem dksX4_isSlot_0 : cX4_isSlot.data.toList.drop 0 = dktX4_isSlot_0 := by decide +kernel
theorem dX4_isSlot_0 : decode cX4_isSlot 0 = .ok (.iload_n 0, 1) := dk_26 (dk_at dksX4_isSlot_0 0 rfl rfl)
theorem dX4_isSlot_1 : decode cX4_isSlot 1 = .ok (.iconst 0, 1) := dk_3 (dk_at dksX4_isSlot_0 1 rfl rfl)
theorem dX4_isSlot_2 : decode cX4_isSlot 2 = .ok (.bipush 11, 2) := dk_16 11 (dk_at dksX4_isSlot_0 2 rfl rfl)
theorem dX4_isSlot_4 : decode cX4_isSlot 4 = .ok (.invokestatic 153, 3) := dk_184 0 153 (dk_at dksX4_isSlot_0 4 rfl rfl)
theorem dX4_isSlot_7 : decode cX4_isSlot 7 = .ok (.ireturn, 1) := dk_172 (dk_at dksX4_isSlot_0 7 rfl rfl)
abbrev cX4_in : ByteArray := prog_18_method_3_code
def yX4_in : MethodName := ⟨RX4, "in", "(III)Z"⟩
def dkwX4_in_0 : List UInt8 := [26, 27, 161, 0, 12, 26, 28, 163, 0, 7, 4, 167, 0, 4, 3, 172]
abbrev dktX4_in_0 : List UInt8 := dkwX4_in_0 ++ []
theorem dksX4_in_0 : cX4_in.data.toList.drop 0 = dktX4_in_0 := by decide +kernel
theorem dX4_in_0 : decode cX4_in 0 = .ok (.iload_n 0, 1) := dk_26 (dk_at dksX4_in_0 0 rfl rfl)
theorem dX4_in_1 : decode cX4_in 1 = .ok (.iload_n 1, 1) := dk_27 (dk_at dksX4_in_0 1 rfl rfl)
theorem dX4_in_2 : decode cX4_in 2 = .ok (.if_icmp .lt 12, 3) := dk_161 0 12 (dk_at dksX4_in_0 2 rfl rfl)
theorem dX4_in_5 : decode cX4_in 5 = .ok (.iload_n 0, 1) := dk_26 (dk_at dksX4_in_0 5 rfl rfl)
theorem dX4_in_6 : decode cX4_in 6 = .ok (.iload_n 2, 1) := dk_28 (dk_at dksX4_in_0 6 rfl rfl)
theorem dX4_in_7 : decode cX4_in 7 = .ok (.if_icmp .gt 7, 3) := dk_163 0 7 (dk_at dksX4_in_0 7 rfl rfl)
theorem dX4_in_10 : decode cX4_in 10 = .ok (.iconst 1, 1) := dk_4 (dk_at dksX4_in_0 10 rfl rfl)
theorem dX4_in_11 : decode cX4_in 11 = .ok (.goto 4, 3) := dk_167 0 4 (dk_at dksX4_in_0 11 rfl rfl)
theorem dX4_in_14 : decode cX4_in 14 = .ok (.iconst 0, 1) := dk_3 (dk_at dksX4_in_0 14 rfl rfl)
theorem dX4_in_15 : decode cX4_in 15 = .ok (.ireturn, 1) := dk_172 (dk_at dksX4_in_0 15 rfl rfl)
abbrev cX4_layNumber : ByteArray := prog_18_method_28_code
def yX4_layNumber : MethodName := ⟨RX4, "layNumber", "(J)Z"⟩
def dkwX4_layNumber_8 : List UInt8 := [21, 11, 4, 96, 79, 4, 172]
abbrev dktX4_layNumber_8 : List UInt8 := dkwX4_layNumber_8 ++ []
def dkwX4_layNumber_7 : List UInt8 := [21, 6, 18, 195, 160, 0, 7, 3, 167, 0, 7, 4, 21, 6, 120, 79, 167, 255, 115, 42, 180, 0, 82, 3]
abbrev dktX4_layNumber_7 : List UInt8 := dkwX4_layNumber_7 ++ dktX4_layNumber_8
def dkwX4_layNumber_6 : List UInt8 := [18, 195, 160, 0, 7, 3, 167, 0, 7, 4, 21, 5, 120, 79, 42, 180, 0, 82, 5, 5, 21, 11, 104, 96]
abbrev dktX4_layNumber_6 : List UInt8 := dkwX4_layNumber_6 ++ dktX4_layNumber_7
def dkwX4_layNumber_5 : List UInt8 := [22, 7, 97, 20, 0, 237, 109, 66, 132, 11, 1, 42, 180, 0, 82, 4, 5, 21, 11, 104, 96, 21, 5]
abbrev dktX4_layNumber_5 : List UInt8 := dkwX4_layNumber_5 ++ dktX4_layNumber_6
def dkwX4_layNumber_4 : List UInt8 := [21, 11, 54, 6, 33, 55, 9, 21, 5, 18, 195, 160, 0, 11, 33, 20, 0, 235, 101, 167, 0, 11, 33]
abbrev dktX4_layNumber_4 : List UInt8 := dkwX4_layNumber_4 ++ dktX4_layNumber_5
def dkwX4_layNumber_3 : List UInt8 := [160, 0, 11, 33, 20, 0, 235, 97, 167, 0, 11, 33, 22, 9, 97, 20, 0, 237, 109, 66, 167, 0, 34]
abbrev dktX4_layNumber_3 : List UInt8 := dkwX4_layNumber_3 ++ dktX4_layNumber_4
def dkwX4_layNumber_2 : List UInt8 := [16, 31, 160, 0, 5, 3, 172, 31, 33, 148, 158, 0, 37, 21, 11, 54, 5, 33, 55, 7, 21, 6, 18, 195]
abbrev dktX4_layNumber_2 : List UInt8 := dkwX4_layNumber_2 ++ dktX4_layNumber_3
def dkwX4_layNumber_1 : List UInt8 := [180, 0, 82, 4, 3, 79, 42, 180, 0, 82, 5, 3, 79, 3, 54, 11, 33, 31, 148, 153, 0, 141, 21, 11]
abbrev dktX4_layNumber_1 : List UInt8 := dkwX4_layNumber_1 ++ dktX4_layNumber_2
def dkwX4_layNumber_0 : List UInt8 := [9, 66, 18, 195, 54, 5, 18, 195, 54, 6, 9, 55, 7, 9, 55, 9, 42, 180, 0, 82, 3, 4, 79, 42]
abbrev dktX4_layNumber_0 : List UInt8 := dkwX4_layNumber_0 ++ dktX4_layNumber_1
theorem dksX4_layNumber_0 : cX4_layNumber.data.toList.drop 0 = dktX4_layNumber_0 := by decide +kernel
theorem dksX4_layNumber_1 : cX4_layNumber.data.toList.drop 24 = dktX4_layNumber_1 := dk_seg dksX4_layNumber_0 24 rfl rfl
theorem dksX4_layNumber_2 : cX4_layNumber.data.toList.drop 48 = dktX4_layNumber_2 := dk_seg dksX4_layNumber_1 24 rfl rfl
theorem dksX4_layNumber_3 : cX4_layNumber.data.toList.drop 72 = dktX4_layNumber_3 := dk_seg dksX4_layNumber_2 24 rfl rfl
theorem dksX4_layNumber_4 : cX4_layNumber.data.toList.drop 95 = dktX4_layNumber_4 := dk_seg dksX4_layNumber_3 23 rfl rfl
theorem dksX4_layNumber_5 : cX4_layNumber.data.toList.drop 118 = dktX4_layNumber_5 := dk_seg dksX4_layNumber_4 23 rfl rfl
theorem dksX4_layNumber_6 : cX4_layNumber.data.toList.drop 141 = dktX4_layNumber_6 := dk_seg dksX4_layNumber_5 23 rfl rfl
theorem dksX4_layNumber_7 : cX4_layNumber.data.toList.drop 165 = dktX4_layNumber_7 := dk_seg dksX4_layNumber_6 24 rfl rfl
theorem dksX4_layNumber_8 : cX4_layNumber.data.toList.drop 189 = dktX4_layNumber_8 := dk_seg dksX4_layNumber_7 24 rfl rfl
theorem dX4_layNumber_0 : decode cX4_layNumber 0 = .ok (.lconst 0, 1) := dk_9 (dk_at dksX4_layNumber_0 0 rfl rfl)
theorem dX4_layNumber_1 : decode cX4_layNumber 1 = .ok (.lstore_n 3, 1) := dk_66 (dk_at dksX4_layNumber_0 1 rfl rfl)
theorem dX4_layNumber_2 : decode cX4_layNumber 2 = .ok (.ldc 195, 2) := dk_18 195 (dk_at dksX4_layNumber_0 2 rfl rfl)
theorem dX4_layNumber_4 : decode cX4_layNumber 4 = .ok (.istore 5, 2) := dk_54 5 (dk_at dksX4_layNumber_0 4 rfl rfl)
theorem dX4_layNumber_6 : decode cX4_layNumber 6 = .ok (.ldc 195, 2) := dk_18 195 (dk_at dksX4_layNumber_0 6 rfl rfl)
theorem dX4_layNumber_8 : decode cX4_layNumber 8 = .ok (.istore 6, 2) := dk_54 6 (dk_at dksX4_layNumber_0 8 rfl rfl)
theorem dX4_layNumber_10 : decode cX4_layNumber 10 = .ok (.lconst 0, 1) := dk_9 (dk_at dksX4_layNumber_0 10 rfl rfl)
theorem dX4_layNumber_11 : decode cX4_layNumber 11 = .ok (.lstore 7, 2) := dk_55 7 (dk_at dksX4_layNumber_0 11 rfl rfl)
theorem dX4_layNumber_13 : decode cX4_layNumber 13 = .ok (.lconst 0, 1) := dk_9 (dk_at dksX4_layNumber_0 13 rfl rfl)
theorem dX4_layNumber_14 : decode cX4_layNumber 14 = .ok (.lstore 9, 2) := dk_55 9 (dk_at dksX4_layNumber_0 14 rfl rfl)
theorem dX4_layNumber_16 : decode cX4_layNumber 16 = .ok (.aload_n 0, 1) := dk_42 (dk_at dksX4_layNumber_0 16 rfl rfl)
theorem dX4_layNumber_17 : decode cX4_layNumber 17 = .ok (.getfield 82, 3) := dk_180 0 82 (dk_at dksX4_layNumber_0 17 rfl rfl)
theorem dX4_layNumber_20 : decode cX4_layNumber 20 = .ok (.iconst 0, 1) := dk_3 (dk_at dksX4_layNumber_0 20 rfl rfl)
theorem dX4_layNumber_21 : decode cX4_layNumber 21 = .ok (.iconst 1, 1) := dk_4 (dk_at dksX4_layNumber_0 21 rfl rfl)
theorem dX4_layNumber_22 : decode cX4_layNumber 22 = .ok (.iastore, 1) := dk_79 (dk_at dksX4_layNumber_0 22 rfl rfl)
theorem dX4_layNumber_23 : decode cX4_layNumber 23 = .ok (.aload_n 0, 1) := dk_42 (dk_at dksX4_layNumber_0 23 rfl rfl)
theorem dX4_layNumber_24 : decode cX4_layNumber 24 = .ok (.getfield 82, 3) := dk_180 0 82 (dk_at dksX4_layNumber_1 0 rfl rfl)
theorem dX4_layNumber_27 : decode cX4_layNumber 27 = .ok (.iconst 1, 1) := dk_4 (dk_at dksX4_layNumber_1 3 rfl rfl)
theorem dX4_layNumber_28 : decode cX4_layNumber 28 = .ok (.iconst 0, 1) := dk_3 (dk_at dksX4_layNumber_1 4 rfl rfl)
theorem dX4_layNumber_29 : decode cX4_layNumber 29 = .ok (.iastore, 1) := dk_79 (dk_at dksX4_layNumber_1 5 rfl rfl)
theorem dX4_layNumber_30 : decode cX4_layNumber 30 = .ok (.aload_n 0, 1) := dk_42 (dk_at dksX4_layNumber_1 6 rfl rfl)
theorem dX4_layNumber_31 : decode cX4_layNumber 31 = .ok (.getfield 82, 3) := dk_180 0 82 (dk_at dksX4_layNumber_1 7 rfl rfl)
theorem dX4_layNumber_34 : decode cX4_layNumber 34 = .ok (.iconst 2, 1) := dk_5 (dk_at dksX4_layNumber_1 10 rfl rfl)
theorem dX4_layNumber_35 : decode cX4_layNumber 35 = .ok (.iconst 0, 1) := dk_3 (dk_at dksX4_layNumber_1 11 rfl rfl)
theorem dX4_layNumber_36 : decode cX4_layNumber 36 = .ok (.iastore, 1) := dk_79 (dk_at dksX4_layNumber_1 12 rfl rfl)
theorem dX4_layNumber_37 : decode cX4_layNumber 37 = .ok (.iconst 0, 1) := dk_3 (dk_at dksX4_layNumber_1 13 rfl rfl)
theorem dX4_layNumber_38 : decode cX4_layNumber 38 = .ok (.istore 11, 2) := dk_54 11 (dk_at dksX4_layNumber_1 14 rfl rfl)
theorem dX4_layNumber_40 : decode cX4_layNumber 40 = .ok (.lload_n 3, 1) := dk_33 (dk_at dksX4_layNumber_1 16 rfl rfl)
theorem dX4_layNumber_41 : decode cX4_layNumber 41 = .ok (.lload_n 1, 1) := dk_31 (dk_at dksX4_layNumber_1 17 rfl rfl)
theorem dX4_layNumber_42 : decode cX4_layNumber 42 = .ok (.lcmp, 1) := dk_148 (dk_at dksX4_layNumber_1 18 rfl rfl)
theorem dX4_layNumber_43 : decode cX4_layNumber 43 = .ok (.ifCond .eq 141, 3) := dk_153 0 141 (dk_at dksX4_layNumber_1 19 rfl rfl)
theorem dX4_layNumber_46 : decode cX4_layNumber 46 = .ok (.iload 11, 2) := dk_21 11 (dk_at dksX4_layNumber_1 22 rfl rfl)
theorem dX4_layNumber_48 : decode cX4_layNumber 48 = .ok (.bipush 31, 2) := dk_16 31 (dk_at dksX4_layNumber_2 0 rfl rfl)
theorem dX4_layNumber_50 : decode cX4_layNumber 50 = .ok (.if_icmp .ne 5, 3) := dk_160 0 5 (dk_at dksX4_layNumber_2 2 rfl rfl)
theorem dX4_layNumber_53 : decode cX4_layNumber 53 = .ok (.iconst 0, 1) := dk_3 (dk_at dksX4_layNumber_2 5 rfl rfl)
theorem dX4_layNumber_54 : decode cX4_layNumber 54 = .ok (.ireturn, 1) := dk_172 (dk_at dksX4_layNumber_2 6 rfl rfl)
theorem dX4_layNumber_55 : decode cX4_layNumber 55 = .ok (.lload_n 1, 1) := dk_31 (dk_at dksX4_layNumber_2 7 rfl rfl)
theorem dX4_layNumber_56 : decode cX4_layNumber 56 = .ok (.lload_n 3, 1) := dk_33 (dk_at dksX4_layNumber_2 8 rfl rfl)
theorem dX4_layNumber_57 : decode cX4_layNumber 57 = .ok (.lcmp, 1) := dk_148 (dk_at dksX4_layNumber_2 9 rfl rfl)
theorem dX4_layNumber_58 : decode cX4_layNumber 58 = .ok (.ifCond .le 37, 3) := dk_158 0 37 (dk_at dksX4_layNumber_2 10 rfl rfl)
theorem dX4_layNumber_61 : decode cX4_layNumber 61 = .ok (.iload 11, 2) := dk_21 11 (dk_at dksX4_layNumber_2 13 rfl rfl)
theorem dX4_layNumber_63 : decode cX4_layNumber 63 = .ok (.istore 5, 2) := dk_54 5 (dk_at dksX4_layNumber_2 15 rfl rfl)
theorem dX4_layNumber_65 : decode cX4_layNumber 65 = .ok (.lload_n 3, 1) := dk_33 (dk_at dksX4_layNumber_2 17 rfl rfl)
theorem dX4_layNumber_66 : decode cX4_layNumber 66 = .ok (.lstore 7, 2) := dk_55 7 (dk_at dksX4_layNumber_2 18 rfl rfl)
theorem dX4_layNumber_68 : decode cX4_layNumber 68 = .ok (.iload 6, 2) := dk_21 6 (dk_at dksX4_layNumber_2 20 rfl rfl)
theorem dX4_layNumber_70 : decode cX4_layNumber 70 = .ok (.ldc 195, 2) := dk_18 195 (dk_at dksX4_layNumber_2 22 rfl rfl)
theorem dX4_layNumber_72 : decode cX4_layNumber 72 = .ok (.if_icmp .ne 11, 3) := dk_160 0 11 (dk_at dksX4_layNumber_3 0 rfl rfl)
theorem dX4_layNumber_75 : decode cX4_layNumber 75 = .ok (.lload_n 3, 1) := dk_33 (dk_at dksX4_layNumber_3 3 rfl rfl)
theorem dX4_layNumber_76 : decode cX4_layNumber 76 = .ok (.ldc2_w 235, 3) := dk_20 0 235 (dk_at dksX4_layNumber_3 4 rfl rfl)
theorem dX4_layNumber_79 : decode cX4_layNumber 79 = .ok (.ladd, 1) := dk_97 (dk_at dksX4_layNumber_3 7 rfl rfl)
theorem dX4_layNumber_80 : decode cX4_layNumber 80 = .ok (.goto 11, 3) := dk_167 0 11 (dk_at dksX4_layNumber_3 8 rfl rfl)
theorem dX4_layNumber_83 : decode cX4_layNumber 83 = .ok (.lload_n 3, 1) := dk_33 (dk_at dksX4_layNumber_3 11 rfl rfl)
theorem dX4_layNumber_84 : decode cX4_layNumber 84 = .ok (.lload 9, 2) := dk_22 9 (dk_at dksX4_layNumber_3 12 rfl rfl)
theorem dX4_layNumber_86 : decode cX4_layNumber 86 = .ok (.ladd, 1) := dk_97 (dk_at dksX4_layNumber_3 14 rfl rfl)
theorem dX4_layNumber_87 : decode cX4_layNumber 87 = .ok (.ldc2_w 237, 3) := dk_20 0 237 (dk_at dksX4_layNumber_3 15 rfl rfl)
theorem dX4_layNumber_90 : decode cX4_layNumber 90 = .ok (.ldiv, 1) := dk_109 (dk_at dksX4_layNumber_3 18 rfl rfl)
theorem dX4_layNumber_91 : decode cX4_layNumber 91 = .ok (.lstore_n 3, 1) := dk_66 (dk_at dksX4_layNumber_3 19 rfl rfl)
theorem dX4_layNumber_92 : decode cX4_layNumber 92 = .ok (.goto 34, 3) := dk_167 0 34 (dk_at dksX4_layNumber_3 20 rfl rfl)
theorem dX4_layNumber_95 : decode cX4_layNumber 95 = .ok (.iload 11, 2) := dk_21 11 (dk_at dksX4_layNumber_4 0 rfl rfl)
theorem dX4_layNumber_97 : decode cX4_layNumber 97 = .ok (.istore 6, 2) := dk_54 6 (dk_at dksX4_layNumber_4 2 rfl rfl)
theorem dX4_layNumber_99 : decode cX4_layNumber 99 = .ok (.lload_n 3, 1) := dk_33 (dk_at dksX4_layNumber_4 4 rfl rfl)
theorem dX4_layNumber_100 : decode cX4_layNumber 100 = .ok (.lstore 9, 2) := dk_55 9 (dk_at dksX4_layNumber_4 5 rfl rfl)
theorem dX4_layNumber_102 : decode cX4_layNumber 102 = .ok (.iload 5, 2) := dk_21 5 (dk_at dksX4_layNumber_4 7 rfl rfl)
theorem dX4_layNumber_104 : decode cX4_layNumber 104 = .ok (.ldc 195, 2) := dk_18 195 (dk_at dksX4_layNumber_4 9 rfl rfl)
theorem dX4_layNumber_106 : decode cX4_layNumber 106 = .ok (.if_icmp .ne 11, 3) := dk_160 0 11 (dk_at dksX4_layNumber_4 11 rfl rfl)
theorem dX4_layNumber_109 : decode cX4_layNumber 109 = .ok (.lload_n 3, 1) := dk_33 (dk_at dksX4_layNumber_4 14 rfl rfl)
theorem dX4_layNumber_110 : decode cX4_layNumber 110 = .ok (.ldc2_w 235, 3) := dk_20 0 235 (dk_at dksX4_layNumber_4 15 rfl rfl)
theorem dX4_layNumber_113 : decode cX4_layNumber 113 = .ok (.lsub, 1) := dk_101 (dk_at dksX4_layNumber_4 18 rfl rfl)
theorem dX4_layNumber_114 : decode cX4_layNumber 114 = .ok (.goto 11, 3) := dk_167 0 11 (dk_at dksX4_layNumber_4 19 rfl rfl)
theorem dX4_layNumber_117 : decode cX4_layNumber 117 = .ok (.lload_n 3, 1) := dk_33 (dk_at dksX4_layNumber_4 22 rfl rfl)
theorem dX4_layNumber_118 : decode cX4_layNumber 118 = .ok (.lload 7, 2) := dk_22 7 (dk_at dksX4_layNumber_5 0 rfl rfl)
theorem dX4_layNumber_120 : decode cX4_layNumber 120 = .ok (.ladd, 1) := dk_97 (dk_at dksX4_layNumber_5 2 rfl rfl)
theorem dX4_layNumber_121 : decode cX4_layNumber 121 = .ok (.ldc2_w 237, 3) := dk_20 0 237 (dk_at dksX4_layNumber_5 3 rfl rfl)
theorem dX4_layNumber_124 : decode cX4_layNumber 124 = .ok (.ldiv, 1) := dk_109 (dk_at dksX4_layNumber_5 6 rfl rfl)
theorem dX4_layNumber_125 : decode cX4_layNumber 125 = .ok (.lstore_n 3, 1) := dk_66 (dk_at dksX4_layNumber_5 7 rfl rfl)
theorem dX4_layNumber_126 : decode cX4_layNumber 126 = .ok (.iinc 11 1, 3) := dk_132 11 1 (dk_at dksX4_layNumber_5 8 rfl rfl)
theorem dX4_layNumber_129 : decode cX4_layNumber 129 = .ok (.aload_n 0, 1) := dk_42 (dk_at dksX4_layNumber_5 11 rfl rfl)
theorem dX4_layNumber_130 : decode cX4_layNumber 130 = .ok (.getfield 82, 3) := dk_180 0 82 (dk_at dksX4_layNumber_5 12 rfl rfl)
theorem dX4_layNumber_133 : decode cX4_layNumber 133 = .ok (.iconst 1, 1) := dk_4 (dk_at dksX4_layNumber_5 15 rfl rfl)
theorem dX4_layNumber_134 : decode cX4_layNumber 134 = .ok (.iconst 2, 1) := dk_5 (dk_at dksX4_layNumber_5 16 rfl rfl)
theorem dX4_layNumber_135 : decode cX4_layNumber 135 = .ok (.iload 11, 2) := dk_21 11 (dk_at dksX4_layNumber_5 17 rfl rfl)
theorem dX4_layNumber_137 : decode cX4_layNumber 137 = .ok (.imul, 1) := dk_104 (dk_at dksX4_layNumber_5 19 rfl rfl)
theorem dX4_layNumber_138 : decode cX4_layNumber 138 = .ok (.iadd, 1) := dk_96 (dk_at dksX4_layNumber_5 20 rfl rfl)
theorem dX4_layNumber_139 : decode cX4_layNumber 139 = .ok (.iload 5, 2) := dk_21 5 (dk_at dksX4_layNumber_5 21 rfl rfl)
theorem dX4_layNumber_141 : decode cX4_layNumber 141 = .ok (.ldc 195, 2) := dk_18 195 (dk_at dksX4_layNumber_6 0 rfl rfl)
theorem dX4_layNumber_143 : decode cX4_layNumber 143 = .ok (.if_icmp .ne 7, 3) := dk_160 0 7 (dk_at dksX4_layNumber_6 2 rfl rfl)
theorem dX4_layNumber_146 : decode cX4_layNumber 146 = .ok (.iconst 0, 1) := dk_3 (dk_at dksX4_layNumber_6 5 rfl rfl)
theorem dX4_layNumber_147 : decode cX4_layNumber 147 = .ok (.goto 7, 3) := dk_167 0 7 (dk_at dksX4_layNumber_6 6 rfl rfl)
theorem dX4_layNumber_150 : decode cX4_layNumber 150 = .ok (.iconst 1, 1) := dk_4 (dk_at dksX4_layNumber_6 9 rfl rfl)
theorem dX4_layNumber_151 : decode cX4_layNumber 151 = .ok (.iload 5, 2) := dk_21 5 (dk_at dksX4_layNumber_6 10 rfl rfl)
theorem dX4_layNumber_153 : decode cX4_layNumber 153 = .ok (.ishl, 1) := dk_120 (dk_at dksX4_layNumber_6 12 rfl rfl)
theorem dX4_layNumber_154 : decode cX4_layNumber 154 = .ok (.iastore, 1) := dk_79 (dk_at dksX4_layNumber_6 13 rfl rfl)
theorem dX4_layNumber_155 : decode cX4_layNumber 155 = .ok (.aload_n 0, 1) := dk_42 (dk_at dksX4_layNumber_6 14 rfl rfl)
theorem dX4_layNumber_156 : decode cX4_layNumber 156 = .ok (.getfield 82, 3) := dk_180 0 82 (dk_at dksX4_layNumber_6 15 rfl rfl)
theorem dX4_layNumber_159 : decode cX4_layNumber 159 = .ok (.iconst 2, 1) := dk_5 (dk_at dksX4_layNumber_6 18 rfl rfl)
theorem dX4_layNumber_160 : decode cX4_layNumber 160 = .ok (.iconst 2, 1) := dk_5 (dk_at dksX4_layNumber_6 19 rfl rfl)
theorem dX4_layNumber_161 : decode cX4_layNumber 161 = .ok (.iload 11, 2) := dk_21 11 (dk_at dksX4_layNumber_6 20 rfl rfl)
theorem dX4_layNumber_163 : decode cX4_layNumber 163 = .ok (.imul, 1) := dk_104 (dk_at dksX4_layNumber_6 22 rfl rfl)
theorem dX4_layNumber_164 : decode cX4_layNumber 164 = .ok (.iadd, 1) := dk_96 (dk_at dksX4_layNumber_6 23 rfl rfl)
theorem dX4_layNumber_165 : decode cX4_layNumber 165 = .ok (.iload 6, 2) := dk_21 6 (dk_at dksX4_layNumber_7 0 rfl rfl)
theorem dX4_layNumber_167 : decode cX4_layNumber 167 = .ok (.ldc 195, 2) := dk_18 195 (dk_at dksX4_layNumber_7 2 rfl rfl)
theorem dX4_layNumber_169 : decode cX4_layNumber 169 = .ok (.if_icmp .ne 7, 3) := dk_160 0 7 (dk_at dksX4_layNumber_7 4 rfl rfl)
theorem dX4_layNumber_172 : decode cX4_layNumber 172 = .ok (.iconst 0, 1) := dk_3 (dk_at dksX4_layNumber_7 7 rfl rfl)
theorem dX4_layNumber_173 : decode cX4_layNumber 173 = .ok (.goto 7, 3) := dk_167 0 7 (dk_at dksX4_layNumber_7 8 rfl rfl)
theorem dX4_layNumber_176 : decode cX4_layNumber 176 = .ok (.iconst 1, 1) := dk_4 (dk_at dksX4_layNumber_7 11 rfl rfl)
theorem dX4_layNumber_177 : decode cX4_layNumber 177 = .ok (.iload 6, 2) := dk_21 6 (dk_at dksX4_layNumber_7 12 rfl rfl)
theorem dX4_layNumber_179 : decode cX4_layNumber 179 = .ok (.ishl, 1) := dk_120 (dk_at dksX4_layNumber_7 14 rfl rfl)
theorem dX4_layNumber_180 : decode cX4_layNumber 180 = .ok (.iastore, 1) := dk_79 (dk_at dksX4_layNumber_7 15 rfl rfl)
theorem dX4_layNumber_181 : decode cX4_layNumber 181 = .ok (.goto (-141), 3) := dk_167 255 115 (dk_at dksX4_layNumber_7 16 rfl rfl)
theorem dX4_layNumber_184 : decode cX4_layNumber 184 = .ok (.aload_n 0, 1) := dk_42 (dk_at dksX4_layNumber_7 19 rfl rfl)
theorem dX4_layNumber_185 : decode cX4_layNumber 185 = .ok (.getfield 82, 3) := dk_180 0 82 (dk_at dksX4_layNumber_7 20 rfl rfl)
theorem dX4_layNumber_188 : decode cX4_layNumber 188 = .ok (.iconst 0, 1) := dk_3 (dk_at dksX4_layNumber_7 23 rfl rfl)
theorem dX4_layNumber_189 : decode cX4_layNumber 189 = .ok (.iload 11, 2) := dk_21 11 (dk_at dksX4_layNumber_8 0 rfl rfl)
theorem dX4_layNumber_191 : decode cX4_layNumber 191 = .ok (.iconst 1, 1) := dk_4 (dk_at dksX4_layNumber_8 2 rfl rfl)
theorem dX4_layNumber_192 : decode cX4_layNumber 192 = .ok (.iadd, 1) := dk_96 (dk_at dksX4_layNumber_8 3 rfl rfl)
theorem dX4_layNumber_193 : decode cX4_layNumber 193 = .ok (.iastore, 1) := dk_79 (dk_at dksX4_layNumber_8 4 rfl rfl)
theorem dX4_layNumber_194 : decode cX4_layNumber 194 = .ok (.iconst 1, 1) := dk_4 (dk_at dksX4_layNumber_8 5 rfl rfl)
theorem dX4_layNumber_195 : decode cX4_layNumber 195 = .ok (.ireturn, 1) := dk_172 (dk_at dksX4_layNumber_8 6 rfl rfl)
abbrev cX4_putResult : ByteArray := prog_18_method_27_code
def yX4_putResult : MethodName := ⟨RX4, "putResult", "(I)V"⟩
def dkwX4_putResult_0 : List UInt8 := [42, 182, 0, 228, 42, 180, 0, 82, 3, 42, 180, 0, 9, 16, 65, 27, 104, 184, 0, 231, 177]
abbrev dktX4_putResult_0 : List UInt8 := dkwX4_putResult_0 ++ []
theorem dksX4_putResult_0 : cX4_putResult.data.toList.drop 0 = dktX4_putResult_0 := by decide +kernel
theorem dX4_putResult_0 : decode cX4_putResult 0 = .ok (.aload_n 0, 1) := dk_42 (dk_at dksX4_putResult_0 0 rfl rfl)
theorem dX4_putResult_1 : decode cX4_putResult 1 = .ok (.invokevirtual 228, 3) := dk_182 0 228 (dk_at dksX4_putResult_0 1 rfl rfl)
theorem dX4_putResult_4 : decode cX4_putResult 4 = .ok (.aload_n 0, 1) := dk_42 (dk_at dksX4_putResult_0 4 rfl rfl)
theorem dX4_putResult_5 : decode cX4_putResult 5 = .ok (.getfield 82, 3) := dk_180 0 82 (dk_at dksX4_putResult_0 5 rfl rfl)
theorem dX4_putResult_8 : decode cX4_putResult 8 = .ok (.iconst 0, 1) := dk_3 (dk_at dksX4_putResult_0 8 rfl rfl)
theorem dX4_putResult_9 : decode cX4_putResult 9 = .ok (.aload_n 0, 1) := dk_42 (dk_at dksX4_putResult_0 9 rfl rfl)
theorem dX4_putResult_10 : decode cX4_putResult 10 = .ok (.getfield 9, 3) := dk_180 0 9 (dk_at dksX4_putResult_0 10 rfl rfl)
theorem dX4_putResult_13 : decode cX4_putResult 13 = .ok (.bipush 65, 2) := dk_16 65 (dk_at dksX4_putResult_0 13 rfl rfl)
theorem dX4_putResult_15 : decode cX4_putResult 15 = .ok (.iload_n 1, 1) := dk_27 (dk_at dksX4_putResult_0 15 rfl rfl)
theorem dX4_putResult_16 : decode cX4_putResult 16 = .ok (.imul, 1) := dk_104 (dk_at dksX4_putResult_0 16 rfl rfl)
theorem dX4_putResult_17 : decode cX4_putResult 17 = .ok (.invokestatic 231, 3) := dk_184 0 231 (dk_at dksX4_putResult_0 17 rfl rfl)
theorem dX4_putResult_20 : decode cX4_putResult 20 = .ok (.return_, 1) := dk_177 (dk_at dksX4_putResult_0 20 rfl rfl)
abbrev cX4_keep : ByteArray := prog_18_method_7_code
def yX4_keep : MethodName := ⟨RX4, "keep", "()V"⟩
def dkwX4_keep_4 : List UInt8 := [181, 0, 157, 177]
abbrev dktX4_keep_4 : List UInt8 := dkwX4_keep_4 ++ []
def dkwX4_keep_3 : List UInt8 := [27, 96, 42, 180, 0, 9, 27, 46, 79, 132, 1, 1, 167, 255, 225, 42, 89, 180, 0, 157, 4, 96]
abbrev dktX4_keep_3 : List UInt8 := dkwX4_keep_3 ++ dktX4_keep_4
def dkwX4_keep_2 : List UInt8 := [181, 0, 157, 3, 60, 27, 17, 3, 12, 162, 0, 30, 42, 180, 0, 13, 17, 3, 12, 42, 180, 0, 157, 104]
abbrev dktX4_keep_2 : List UInt8 := dkwX4_keep_2 ++ dktX4_keep_3
def dkwX4_keep_1 : List UInt8 := [180, 0, 13, 27, 17, 3, 12, 96, 46, 79, 132, 1, 1, 167, 255, 230, 42, 89, 180, 0, 157, 4, 100]
abbrev dktX4_keep_1 : List UInt8 := dkwX4_keep_1 ++ dktX4_keep_2
def dkwX4_keep_0 : List UInt8 := [42, 180, 0, 157, 16, 8, 160, 0, 44, 3, 60, 27, 17, 21, 84, 162, 0, 25, 42, 180, 0, 13, 27, 42]
abbrev dktX4_keep_0 : List UInt8 := dkwX4_keep_0 ++ dktX4_keep_1
theorem dksX4_keep_0 : cX4_keep.data.toList.drop 0 = dktX4_keep_0 := by decide +kernel
theorem dksX4_keep_1 : cX4_keep.data.toList.drop 24 = dktX4_keep_1 := dk_seg dksX4_keep_0 24 rfl rfl
theorem dksX4_keep_2 : cX4_keep.data.toList.drop 47 = dktX4_keep_2 := dk_seg dksX4_keep_1 23 rfl rfl
theorem dksX4_keep_3 : cX4_keep.data.toList.drop 71 = dktX4_keep_3 := dk_seg dksX4_keep_2 24 rfl rfl
theorem dksX4_keep_4 : cX4_keep.data.toList.drop 93 = dktX4_keep_4 := dk_seg dksX4_keep_3 22 rfl rfl
theorem dX4_keep_0 : decode cX4_keep 0 = .ok (.aload_n 0, 1) := dk_42 (dk_at dksX4_keep_0 0 rfl rfl)
theorem dX4_keep_1 : decode cX4_keep 1 = .ok (.getfield 157, 3) := dk_180 0 157 (dk_at dksX4_keep_0 1 rfl rfl)
theorem dX4_keep_4 : decode cX4_keep 4 = .ok (.bipush 8, 2) := dk_16 8 (dk_at dksX4_keep_0 4 rfl rfl)
theorem dX4_keep_6 : decode cX4_keep 6 = .ok (.if_icmp .ne 44, 3) := dk_160 0 44 (dk_at dksX4_keep_0 6 rfl rfl)
theorem dX4_keep_9 : decode cX4_keep 9 = .ok (.iconst 0, 1) := dk_3 (dk_at dksX4_keep_0 9 rfl rfl)
theorem dX4_keep_10 : decode cX4_keep 10 = .ok (.istore_n 1, 1) := dk_60 (dk_at dksX4_keep_0 10 rfl rfl)
theorem dX4_keep_11 : decode cX4_keep 11 = .ok (.iload_n 1, 1) := dk_27 (dk_at dksX4_keep_0 11 rfl rfl)
theorem dX4_keep_12 : decode cX4_keep 12 = .ok (.sipush 5460, 3) := dk_17 21 84 (dk_at dksX4_keep_0 12 rfl rfl)
theorem dX4_keep_15 : decode cX4_keep 15 = .ok (.if_icmp .ge 25, 3) := dk_162 0 25 (dk_at dksX4_keep_0 15 rfl rfl)
theorem dX4_keep_18 : decode cX4_keep 18 = .ok (.aload_n 0, 1) := dk_42 (dk_at dksX4_keep_0 18 rfl rfl)
theorem dX4_keep_19 : decode cX4_keep 19 = .ok (.getfield 13, 3) := dk_180 0 13 (dk_at dksX4_keep_0 19 rfl rfl)
theorem dX4_keep_22 : decode cX4_keep 22 = .ok (.iload_n 1, 1) := dk_27 (dk_at dksX4_keep_0 22 rfl rfl)
theorem dX4_keep_23 : decode cX4_keep 23 = .ok (.aload_n 0, 1) := dk_42 (dk_at dksX4_keep_0 23 rfl rfl)
theorem dX4_keep_24 : decode cX4_keep 24 = .ok (.getfield 13, 3) := dk_180 0 13 (dk_at dksX4_keep_1 0 rfl rfl)
theorem dX4_keep_27 : decode cX4_keep 27 = .ok (.iload_n 1, 1) := dk_27 (dk_at dksX4_keep_1 3 rfl rfl)
theorem dX4_keep_28 : decode cX4_keep 28 = .ok (.sipush 780, 3) := dk_17 3 12 (dk_at dksX4_keep_1 4 rfl rfl)
theorem dX4_keep_31 : decode cX4_keep 31 = .ok (.iadd, 1) := dk_96 (dk_at dksX4_keep_1 7 rfl rfl)
theorem dX4_keep_32 : decode cX4_keep 32 = .ok (.iaload, 1) := dk_46 (dk_at dksX4_keep_1 8 rfl rfl)
theorem dX4_keep_33 : decode cX4_keep 33 = .ok (.iastore, 1) := dk_79 (dk_at dksX4_keep_1 9 rfl rfl)
theorem dX4_keep_34 : decode cX4_keep 34 = .ok (.iinc 1 1, 3) := dk_132 1 1 (dk_at dksX4_keep_1 10 rfl rfl)
theorem dX4_keep_37 : decode cX4_keep 37 = .ok (.goto (-26), 3) := dk_167 255 230 (dk_at dksX4_keep_1 13 rfl rfl)
theorem dX4_keep_40 : decode cX4_keep 40 = .ok (.aload_n 0, 1) := dk_42 (dk_at dksX4_keep_1 16 rfl rfl)
theorem dX4_keep_41 : decode cX4_keep 41 = .ok (.dup, 1) := dk_89 (dk_at dksX4_keep_1 17 rfl rfl)
theorem dX4_keep_42 : decode cX4_keep 42 = .ok (.getfield 157, 3) := dk_180 0 157 (dk_at dksX4_keep_1 18 rfl rfl)
theorem dX4_keep_45 : decode cX4_keep 45 = .ok (.iconst 1, 1) := dk_4 (dk_at dksX4_keep_1 21 rfl rfl)
theorem dX4_keep_46 : decode cX4_keep 46 = .ok (.isub, 1) := dk_100 (dk_at dksX4_keep_1 22 rfl rfl)
theorem dX4_keep_47 : decode cX4_keep 47 = .ok (.putfield 157, 3) := dk_181 0 157 (dk_at dksX4_keep_2 0 rfl rfl)
theorem dX4_keep_50 : decode cX4_keep 50 = .ok (.iconst 0, 1) := dk_3 (dk_at dksX4_keep_2 3 rfl rfl)
theorem dX4_keep_51 : decode cX4_keep 51 = .ok (.istore_n 1, 1) := dk_60 (dk_at dksX4_keep_2 4 rfl rfl)
theorem dX4_keep_52 : decode cX4_keep 52 = .ok (.iload_n 1, 1) := dk_27 (dk_at dksX4_keep_2 5 rfl rfl)
theorem dX4_keep_53 : decode cX4_keep 53 = .ok (.sipush 780, 3) := dk_17 3 12 (dk_at dksX4_keep_2 6 rfl rfl)
theorem dX4_keep_56 : decode cX4_keep 56 = .ok (.if_icmp .ge 30, 3) := dk_162 0 30 (dk_at dksX4_keep_2 9 rfl rfl)
theorem dX4_keep_59 : decode cX4_keep 59 = .ok (.aload_n 0, 1) := dk_42 (dk_at dksX4_keep_2 12 rfl rfl)
theorem dX4_keep_60 : decode cX4_keep 60 = .ok (.getfield 13, 3) := dk_180 0 13 (dk_at dksX4_keep_2 13 rfl rfl)
theorem dX4_keep_63 : decode cX4_keep 63 = .ok (.sipush 780, 3) := dk_17 3 12 (dk_at dksX4_keep_2 16 rfl rfl)
theorem dX4_keep_66 : decode cX4_keep 66 = .ok (.aload_n 0, 1) := dk_42 (dk_at dksX4_keep_2 19 rfl rfl)
theorem dX4_keep_67 : decode cX4_keep 67 = .ok (.getfield 157, 3) := dk_180 0 157 (dk_at dksX4_keep_2 20 rfl rfl)
theorem dX4_keep_70 : decode cX4_keep 70 = .ok (.imul, 1) := dk_104 (dk_at dksX4_keep_2 23 rfl rfl)
theorem dX4_keep_71 : decode cX4_keep 71 = .ok (.iload_n 1, 1) := dk_27 (dk_at dksX4_keep_3 0 rfl rfl)
theorem dX4_keep_72 : decode cX4_keep 72 = .ok (.iadd, 1) := dk_96 (dk_at dksX4_keep_3 1 rfl rfl)
theorem dX4_keep_73 : decode cX4_keep 73 = .ok (.aload_n 0, 1) := dk_42 (dk_at dksX4_keep_3 2 rfl rfl)
theorem dX4_keep_74 : decode cX4_keep 74 = .ok (.getfield 9, 3) := dk_180 0 9 (dk_at dksX4_keep_3 3 rfl rfl)
theorem dX4_keep_77 : decode cX4_keep 77 = .ok (.iload_n 1, 1) := dk_27 (dk_at dksX4_keep_3 6 rfl rfl)
theorem dX4_keep_78 : decode cX4_keep 78 = .ok (.iaload, 1) := dk_46 (dk_at dksX4_keep_3 7 rfl rfl)
theorem dX4_keep_79 : decode cX4_keep 79 = .ok (.iastore, 1) := dk_79 (dk_at dksX4_keep_3 8 rfl rfl)
theorem dX4_keep_80 : decode cX4_keep 80 = .ok (.iinc 1 1, 3) := dk_132 1 1 (dk_at dksX4_keep_3 9 rfl rfl)
theorem dX4_keep_83 : decode cX4_keep 83 = .ok (.goto (-31), 3) := dk_167 255 225 (dk_at dksX4_keep_3 12 rfl rfl)
theorem dX4_keep_86 : decode cX4_keep 86 = .ok (.aload_n 0, 1) := dk_42 (dk_at dksX4_keep_3 15 rfl rfl)
theorem dX4_keep_87 : decode cX4_keep 87 = .ok (.dup, 1) := dk_89 (dk_at dksX4_keep_3 16 rfl rfl)
theorem dX4_keep_88 : decode cX4_keep 88 = .ok (.getfield 157, 3) := dk_180 0 157 (dk_at dksX4_keep_3 17 rfl rfl)
theorem dX4_keep_91 : decode cX4_keep 91 = .ok (.iconst 1, 1) := dk_4 (dk_at dksX4_keep_3 20 rfl rfl)
theorem dX4_keep_92 : decode cX4_keep 92 = .ok (.iadd, 1) := dk_96 (dk_at dksX4_keep_3 21 rfl rfl)
theorem dX4_keep_93 : decode cX4_keep 93 = .ok (.putfield 157, 3) := dk_181 0 157 (dk_at dksX4_keep_4 0 rfl rfl)
theorem dX4_keep_96 : decode cX4_keep 96 = .ok (.return_, 1) := dk_177 (dk_at dksX4_keep_4 3 rfl rfl)
abbrev cX4_setNimber : ByteArray := prog_18_method_48_code
def yX4_setNimber : MethodName := ⟨RX4, "setNimber", "(II)I"⟩
def dkwX4_setNimber_1 : List UInt8 := [19, 1, 37, 172, 42, 28, 182, 1, 20, 42, 27, 182, 1, 43, 42, 180, 0, 82, 3, 46, 172]
abbrev dktX4_setNimber_1 : List UInt8 := dkwX4_setNimber_1 ++ []
def dkwX4_setNimber_0 : List UInt8 := [42, 3, 181, 0, 146, 27, 184, 1, 34, 153, 0, 13, 28, 3, 16, 6, 184, 0, 153, 154, 0, 7]
abbrev dktX4_setNimber_0 : List UInt8 := dkwX4_setNimber_0 ++ dktX4_setNimber_1
theorem dksX4_setNimber_0 : cX4_setNimber.data.toList.drop 0 = dktX4_setNimber_0 := by decide +kernel
theorem dksX4_setNimber_1 : cX4_setNimber.data.toList.drop 22 = dktX4_setNimber_1 := dk_seg dksX4_setNimber_0 22 rfl rfl
theorem dX4_setNimber_0 : decode cX4_setNimber 0 = .ok (.aload_n 0, 1) := dk_42 (dk_at dksX4_setNimber_0 0 rfl rfl)
theorem dX4_setNimber_1 : decode cX4_setNimber 1 = .ok (.iconst 0, 1) := dk_3 (dk_at dksX4_setNimber_0 1 rfl rfl)
theorem dX4_setNimber_2 : decode cX4_setNimber 2 = .ok (.putfield 146, 3) := dk_181 0 146 (dk_at dksX4_setNimber_0 2 rfl rfl)
theorem dX4_setNimber_5 : decode cX4_setNimber 5 = .ok (.iload_n 1, 1) := dk_27 (dk_at dksX4_setNimber_0 5 rfl rfl)
theorem dX4_setNimber_6 : decode cX4_setNimber 6 = .ok (.invokestatic 290, 3) := dk_184 1 34 (dk_at dksX4_setNimber_0 6 rfl rfl)
theorem dX4_setNimber_9 : decode cX4_setNimber 9 = .ok (.ifCond .eq 13, 3) := dk_153 0 13 (dk_at dksX4_setNimber_0 9 rfl rfl)
theorem dX4_setNimber_12 : decode cX4_setNimber 12 = .ok (.iload_n 2, 1) := dk_28 (dk_at dksX4_setNimber_0 12 rfl rfl)
theorem dX4_setNimber_13 : decode cX4_setNimber 13 = .ok (.iconst 0, 1) := dk_3 (dk_at dksX4_setNimber_0 13 rfl rfl)
theorem dX4_setNimber_14 : decode cX4_setNimber 14 = .ok (.bipush 6, 2) := dk_16 6 (dk_at dksX4_setNimber_0 14 rfl rfl)
theorem dX4_setNimber_16 : decode cX4_setNimber 16 = .ok (.invokestatic 153, 3) := dk_184 0 153 (dk_at dksX4_setNimber_0 16 rfl rfl)
theorem dX4_setNimber_19 : decode cX4_setNimber 19 = .ok (.ifCond .ne 7, 3) := dk_154 0 7 (dk_at dksX4_setNimber_0 19 rfl rfl)
theorem dX4_setNimber_22 : decode cX4_setNimber 22 = .ok (.ldc_w 293, 3) := dk_19 1 37 (dk_at dksX4_setNimber_1 0 rfl rfl)
theorem dX4_setNimber_25 : decode cX4_setNimber 25 = .ok (.ireturn, 1) := dk_172 (dk_at dksX4_setNimber_1 3 rfl rfl)
theorem dX4_setNimber_26 : decode cX4_setNimber 26 = .ok (.aload_n 0, 1) := dk_42 (dk_at dksX4_setNimber_1 4 rfl rfl)
theorem dX4_setNimber_27 : decode cX4_setNimber 27 = .ok (.iload_n 2, 1) := dk_28 (dk_at dksX4_setNimber_1 5 rfl rfl)
theorem dX4_setNimber_28 : decode cX4_setNimber 28 = .ok (.invokevirtual 276, 3) := dk_182 1 20 (dk_at dksX4_setNimber_1 6 rfl rfl)
theorem dX4_setNimber_31 : decode cX4_setNimber 31 = .ok (.aload_n 0, 1) := dk_42 (dk_at dksX4_setNimber_1 9 rfl rfl)
theorem dX4_setNimber_32 : decode cX4_setNimber 32 = .ok (.iload_n 1, 1) := dk_27 (dk_at dksX4_setNimber_1 10 rfl rfl)
theorem dX4_setNimber_33 : decode cX4_setNimber 33 = .ok (.invokevirtual 299, 3) := dk_182 1 43 (dk_at dksX4_setNimber_1 11 rfl rfl)
theorem dX4_setNimber_36 : decode cX4_setNimber 36 = .ok (.aload_n 0, 1) := dk_42 (dk_at dksX4_setNimber_1 14 rfl rfl)
theorem dX4_setNimber_37 : decode cX4_setNimber 37 = .ok (.getfield 82, 3) := dk_180 0 82 (dk_at dksX4_setNimber_1 15 rfl rfl)
theorem dX4_setNimber_40 : decode cX4_setNimber 40 = .ok (.iconst 0, 1) := dk_3 (dk_at dksX4_setNimber_1 18 rfl rfl)
theorem dX4_setNimber_41 : decode cX4_setNimber 41 = .ok (.iaload, 1) := dk_46 (dk_at dksX4_setNimber_1 19 rfl rfl)
theorem dX4_setNimber_42 : decode cX4_setNimber 42 = .ok (.ireturn, 1) := dk_172 (dk_at dksX4_setNimber_1 20 rfl rfl)
abbrev cX4_setUp : ByteArray := prog_18_method_49_code
def yX4_setUp : MethodName := ⟨RX4, "setUp", "(III)I"⟩
def dkwX4_setUp_2 : List UInt8 := [180, 0, 82, 3, 184, 0, 231, 42, 27, 182, 1, 43, 42, 180, 0, 82, 3, 46, 172]
abbrev dktX4_setUp_2 : List UInt8 := dkwX4_setUp_2 ++ []
def dkwX4_setUp_1 : List UInt8 := [6, 184, 0, 153, 154, 0, 7, 19, 1, 37, 172, 42, 180, 0, 28, 42, 28, 29, 182, 1, 23, 42]
abbrev dktX4_setUp_1 : List UInt8 := dkwX4_setUp_1 ++ dktX4_setUp_2
def dkwX4_setUp_0 : List UInt8 := [42, 3, 181, 0, 146, 27, 184, 1, 34, 153, 0, 22, 28, 16, 252, 7, 184, 0, 153, 153, 0, 12, 29, 3]
abbrev dktX4_setUp_0 : List UInt8 := dkwX4_setUp_0 ++ dktX4_setUp_1
theorem dksX4_setUp_0 : cX4_setUp.data.toList.drop 0 = dktX4_setUp_0 := by decide +kernel
theorem dksX4_setUp_1 : cX4_setUp.data.toList.drop 24 = dktX4_setUp_1 := dk_seg dksX4_setUp_0 24 rfl rfl
theorem dksX4_setUp_2 : cX4_setUp.data.toList.drop 46 = dktX4_setUp_2 := dk_seg dksX4_setUp_1 22 rfl rfl
theorem dX4_setUp_0 : decode cX4_setUp 0 = .ok (.aload_n 0, 1) := dk_42 (dk_at dksX4_setUp_0 0 rfl rfl)
theorem dX4_setUp_1 : decode cX4_setUp 1 = .ok (.iconst 0, 1) := dk_3 (dk_at dksX4_setUp_0 1 rfl rfl)
theorem dX4_setUp_2 : decode cX4_setUp 2 = .ok (.putfield 146, 3) := dk_181 0 146 (dk_at dksX4_setUp_0 2 rfl rfl)
theorem dX4_setUp_5 : decode cX4_setUp 5 = .ok (.iload_n 1, 1) := dk_27 (dk_at dksX4_setUp_0 5 rfl rfl)
theorem dX4_setUp_6 : decode cX4_setUp 6 = .ok (.invokestatic 290, 3) := dk_184 1 34 (dk_at dksX4_setUp_0 6 rfl rfl)
theorem dX4_setUp_9 : decode cX4_setUp 9 = .ok (.ifCond .eq 22, 3) := dk_153 0 22 (dk_at dksX4_setUp_0 9 rfl rfl)
theorem dX4_setUp_12 : decode cX4_setUp 12 = .ok (.iload_n 2, 1) := dk_28 (dk_at dksX4_setUp_0 12 rfl rfl)
theorem dX4_setUp_13 : decode cX4_setUp 13 = .ok (.bipush (-4), 2) := dk_16 252 (dk_at dksX4_setUp_0 13 rfl rfl)
theorem dX4_setUp_15 : decode cX4_setUp 15 = .ok (.iconst 4, 1) := dk_7 (dk_at dksX4_setUp_0 15 rfl rfl)
theorem dX4_setUp_16 : decode cX4_setUp 16 = .ok (.invokestatic 153, 3) := dk_184 0 153 (dk_at dksX4_setUp_0 16 rfl rfl)
theorem dX4_setUp_19 : decode cX4_setUp 19 = .ok (.ifCond .eq 12, 3) := dk_153 0 12 (dk_at dksX4_setUp_0 19 rfl rfl)
theorem dX4_setUp_22 : decode cX4_setUp 22 = .ok (.iload_n 3, 1) := dk_29 (dk_at dksX4_setUp_0 22 rfl rfl)
theorem dX4_setUp_23 : decode cX4_setUp 23 = .ok (.iconst 0, 1) := dk_3 (dk_at dksX4_setUp_0 23 rfl rfl)
theorem dX4_setUp_24 : decode cX4_setUp 24 = .ok (.iconst 3, 1) := dk_6 (dk_at dksX4_setUp_1 0 rfl rfl)
theorem dX4_setUp_25 : decode cX4_setUp 25 = .ok (.invokestatic 153, 3) := dk_184 0 153 (dk_at dksX4_setUp_1 1 rfl rfl)
theorem dX4_setUp_28 : decode cX4_setUp 28 = .ok (.ifCond .ne 7, 3) := dk_154 0 7 (dk_at dksX4_setUp_1 4 rfl rfl)
theorem dX4_setUp_31 : decode cX4_setUp 31 = .ok (.ldc_w 293, 3) := dk_19 1 37 (dk_at dksX4_setUp_1 7 rfl rfl)
theorem dX4_setUp_34 : decode cX4_setUp 34 = .ok (.ireturn, 1) := dk_172 (dk_at dksX4_setUp_1 10 rfl rfl)
theorem dX4_setUp_35 : decode cX4_setUp 35 = .ok (.aload_n 0, 1) := dk_42 (dk_at dksX4_setUp_1 11 rfl rfl)
theorem dX4_setUp_36 : decode cX4_setUp 36 = .ok (.getfield 28, 3) := dk_180 0 28 (dk_at dksX4_setUp_1 12 rfl rfl)
theorem dX4_setUp_39 : decode cX4_setUp 39 = .ok (.aload_n 0, 1) := dk_42 (dk_at dksX4_setUp_1 15 rfl rfl)
theorem dX4_setUp_40 : decode cX4_setUp 40 = .ok (.iload_n 2, 1) := dk_28 (dk_at dksX4_setUp_1 16 rfl rfl)
theorem dX4_setUp_41 : decode cX4_setUp 41 = .ok (.iload_n 3, 1) := dk_29 (dk_at dksX4_setUp_1 17 rfl rfl)
theorem dX4_setUp_42 : decode cX4_setUp 42 = .ok (.invokevirtual 279, 3) := dk_182 1 23 (dk_at dksX4_setUp_1 18 rfl rfl)
theorem dX4_setUp_45 : decode cX4_setUp 45 = .ok (.aload_n 0, 1) := dk_42 (dk_at dksX4_setUp_1 21 rfl rfl)
theorem dX4_setUp_46 : decode cX4_setUp 46 = .ok (.getfield 82, 3) := dk_180 0 82 (dk_at dksX4_setUp_2 0 rfl rfl)
theorem dX4_setUp_49 : decode cX4_setUp 49 = .ok (.iconst 0, 1) := dk_3 (dk_at dksX4_setUp_2 3 rfl rfl)
theorem dX4_setUp_50 : decode cX4_setUp 50 = .ok (.invokestatic 231, 3) := dk_184 0 231 (dk_at dksX4_setUp_2 4 rfl rfl)
theorem dX4_setUp_53 : decode cX4_setUp 53 = .ok (.aload_n 0, 1) := dk_42 (dk_at dksX4_setUp_2 7 rfl rfl)
theorem dX4_setUp_54 : decode cX4_setUp 54 = .ok (.iload_n 1, 1) := dk_27 (dk_at dksX4_setUp_2 8 rfl rfl)
theorem dX4_setUp_55 : decode cX4_setUp 55 = .ok (.invokevirtual 299, 3) := dk_182 1 43 (dk_at dksX4_setUp_2 9 rfl rfl)
theorem dX4_setUp_58 : decode cX4_setUp 58 = .ok (.aload_n 0, 1) := dk_42 (dk_at dksX4_setUp_2 12 rfl rfl)
theorem dX4_setUp_59 : decode cX4_setUp 59 = .ok (.getfield 82, 3) := dk_180 0 82 (dk_at dksX4_setUp_2 13 rfl rfl)
theorem dX4_setUp_62 : decode cX4_setUp 62 = .ok (.iconst 0, 1) := dk_3 (dk_at dksX4_setUp_2 16 rfl rfl)
theorem dX4_setUp_63 : decode cX4_setUp 63 = .ok (.iaload, 1) := dk_46 (dk_at dksX4_setUp_2 17 rfl rfl)
theorem dX4_setUp_64 : decode cX4_setUp 64 = .ok (.ireturn, 1) := dk_172 (dk_at dksX4_setUp_2 18 rfl rfl)
abbrev cX4_draft : ByteArray := prog_18_method_51_code
def yX4_draft : MethodName := ⟨RX4, "draft", "(II)I"⟩
def dkwX4_draft_5 : List UInt8 := [92, 46, 4, 96, 79, 42, 180, 0, 19, 27, 46, 172]
abbrev dktX4_draft_5 : List UInt8 := dkwX4_draft_5 ++ []
def dkwX4_draft_4 : List UInt8 := [28, 104, 42, 180, 0, 16, 27, 42, 180, 0, 19, 27, 46, 184, 1, 46, 184, 0, 231, 42, 180, 0, 19, 27]
abbrev dktX4_draft_4 : List UInt8 := dkwX4_draft_4 ++ dktX4_draft_5
def dkwX4_draft_3 : List UInt8 := [167, 255, 213, 42, 180, 0, 19, 27, 46, 16, 6, 160, 0, 7, 19, 1, 53, 172, 42, 180, 0, 9, 16, 65]
abbrev dktX4_draft_3 : List UInt8 := dkwX4_draft_3 ++ dktX4_draft_4
def dkwX4_draft_2 : List UInt8 := [180, 0, 9, 16, 65, 28, 104, 184, 1, 49, 153, 0, 10, 42, 180, 0, 19, 27, 46, 172, 132, 3, 1]
abbrev dktX4_draft_2 : List UInt8 := dkwX4_draft_2 ++ dktX4_draft_3
def dkwX4_draft_1 : List UInt8 := [172, 3, 62, 29, 42, 180, 0, 19, 27, 46, 162, 0, 39, 42, 180, 0, 16, 27, 29, 184, 1, 46, 42]
abbrev dktX4_draft_1 : List UInt8 := dkwX4_draft_1 ++ dktX4_draft_2
def dkwX4_draft_0 : List UInt8 := [42, 3, 181, 0, 146, 27, 3, 4, 184, 0, 153, 153, 0, 10, 28, 184, 1, 34, 154, 0, 7, 19, 1, 37]
abbrev dktX4_draft_0 : List UInt8 := dkwX4_draft_0 ++ dktX4_draft_1
theorem dksX4_draft_0 : cX4_draft.data.toList.drop 0 = dktX4_draft_0 := by decide +kernel
theorem dksX4_draft_1 : cX4_draft.data.toList.drop 24 = dktX4_draft_1 := dk_seg dksX4_draft_0 24 rfl rfl
theorem dksX4_draft_2 : cX4_draft.data.toList.drop 47 = dktX4_draft_2 := dk_seg dksX4_draft_1 23 rfl rfl
theorem dksX4_draft_3 : cX4_draft.data.toList.drop 70 = dktX4_draft_3 := dk_seg dksX4_draft_2 23 rfl rfl
theorem dksX4_draft_4 : cX4_draft.data.toList.drop 94 = dktX4_draft_4 := dk_seg dksX4_draft_3 24 rfl rfl
theorem dksX4_draft_5 : cX4_draft.data.toList.drop 118 = dktX4_draft_5 := dk_seg dksX4_draft_4 24 rfl rfl
theorem dX4_draft_0 : decode cX4_draft 0 = .ok (.aload_n 0, 1) := dk_42 (dk_at dksX4_draft_0 0 rfl rfl)
theorem dX4_draft_1 : decode cX4_draft 1 = .ok (.iconst 0, 1) := dk_3 (dk_at dksX4_draft_0 1 rfl rfl)
theorem dX4_draft_2 : decode cX4_draft 2 = .ok (.putfield 146, 3) := dk_181 0 146 (dk_at dksX4_draft_0 2 rfl rfl)
theorem dX4_draft_5 : decode cX4_draft 5 = .ok (.iload_n 1, 1) := dk_27 (dk_at dksX4_draft_0 5 rfl rfl)
theorem dX4_draft_6 : decode cX4_draft 6 = .ok (.iconst 0, 1) := dk_3 (dk_at dksX4_draft_0 6 rfl rfl)
theorem dX4_draft_7 : decode cX4_draft 7 = .ok (.iconst 1, 1) := dk_4 (dk_at dksX4_draft_0 7 rfl rfl)
theorem dX4_draft_8 : decode cX4_draft 8 = .ok (.invokestatic 153, 3) := dk_184 0 153 (dk_at dksX4_draft_0 8 rfl rfl)
theorem dX4_draft_11 : decode cX4_draft 11 = .ok (.ifCond .eq 10, 3) := dk_153 0 10 (dk_at dksX4_draft_0 11 rfl rfl)
theorem dX4_draft_14 : decode cX4_draft 14 = .ok (.iload_n 2, 1) := dk_28 (dk_at dksX4_draft_0 14 rfl rfl)
theorem dX4_draft_15 : decode cX4_draft 15 = .ok (.invokestatic 290, 3) := dk_184 1 34 (dk_at dksX4_draft_0 15 rfl rfl)
theorem dX4_draft_18 : decode cX4_draft 18 = .ok (.ifCond .ne 7, 3) := dk_154 0 7 (dk_at dksX4_draft_0 18 rfl rfl)
theorem dX4_draft_21 : decode cX4_draft 21 = .ok (.ldc_w 293, 3) := dk_19 1 37 (dk_at dksX4_draft_0 21 rfl rfl)
theorem dX4_draft_24 : decode cX4_draft 24 = .ok (.ireturn, 1) := dk_172 (dk_at dksX4_draft_1 0 rfl rfl)
theorem dX4_draft_25 : decode cX4_draft 25 = .ok (.iconst 0, 1) := dk_3 (dk_at dksX4_draft_1 1 rfl rfl)
theorem dX4_draft_26 : decode cX4_draft 26 = .ok (.istore_n 3, 1) := dk_62 (dk_at dksX4_draft_1 2 rfl rfl)
theorem dX4_draft_27 : decode cX4_draft 27 = .ok (.iload_n 3, 1) := dk_29 (dk_at dksX4_draft_1 3 rfl rfl)
theorem dX4_draft_28 : decode cX4_draft 28 = .ok (.aload_n 0, 1) := dk_42 (dk_at dksX4_draft_1 4 rfl rfl)
theorem dX4_draft_29 : decode cX4_draft 29 = .ok (.getfield 19, 3) := dk_180 0 19 (dk_at dksX4_draft_1 5 rfl rfl)
theorem dX4_draft_32 : decode cX4_draft 32 = .ok (.iload_n 1, 1) := dk_27 (dk_at dksX4_draft_1 8 rfl rfl)
theorem dX4_draft_33 : decode cX4_draft 33 = .ok (.iaload, 1) := dk_46 (dk_at dksX4_draft_1 9 rfl rfl)
theorem dX4_draft_34 : decode cX4_draft 34 = .ok (.if_icmp .ge 39, 3) := dk_162 0 39 (dk_at dksX4_draft_1 10 rfl rfl)
theorem dX4_draft_37 : decode cX4_draft 37 = .ok (.aload_n 0, 1) := dk_42 (dk_at dksX4_draft_1 13 rfl rfl)
theorem dX4_draft_38 : decode cX4_draft 38 = .ok (.getfield 16, 3) := dk_180 0 16 (dk_at dksX4_draft_1 14 rfl rfl)
theorem dX4_draft_41 : decode cX4_draft 41 = .ok (.iload_n 1, 1) := dk_27 (dk_at dksX4_draft_1 17 rfl rfl)
theorem dX4_draft_42 : decode cX4_draft 42 = .ok (.iload_n 3, 1) := dk_29 (dk_at dksX4_draft_1 18 rfl rfl)
theorem dX4_draft_43 : decode cX4_draft 43 = .ok (.invokestatic 302, 3) := dk_184 1 46 (dk_at dksX4_draft_1 19 rfl rfl)
theorem dX4_draft_46 : decode cX4_draft 46 = .ok (.aload_n 0, 1) := dk_42 (dk_at dksX4_draft_1 22 rfl rfl)
theorem dX4_draft_47 : decode cX4_draft 47 = .ok (.getfield 9, 3) := dk_180 0 9 (dk_at dksX4_draft_2 0 rfl rfl)
theorem dX4_draft_50 : decode cX4_draft 50 = .ok (.bipush 65, 2) := dk_16 65 (dk_at dksX4_draft_2 3 rfl rfl)
theorem dX4_draft_52 : decode cX4_draft 52 = .ok (.iload_n 2, 1) := dk_28 (dk_at dksX4_draft_2 5 rfl rfl)
theorem dX4_draft_53 : decode cX4_draft 53 = .ok (.imul, 1) := dk_104 (dk_at dksX4_draft_2 6 rfl rfl)
theorem dX4_draft_54 : decode cX4_draft 54 = .ok (.invokestatic 305, 3) := dk_184 1 49 (dk_at dksX4_draft_2 7 rfl rfl)
theorem dX4_draft_57 : decode cX4_draft 57 = .ok (.ifCond .eq 10, 3) := dk_153 0 10 (dk_at dksX4_draft_2 10 rfl rfl)
theorem dX4_draft_60 : decode cX4_draft 60 = .ok (.aload_n 0, 1) := dk_42 (dk_at dksX4_draft_2 13 rfl rfl)
theorem dX4_draft_61 : decode cX4_draft 61 = .ok (.getfield 19, 3) := dk_180 0 19 (dk_at dksX4_draft_2 14 rfl rfl)
theorem dX4_draft_64 : decode cX4_draft 64 = .ok (.iload_n 1, 1) := dk_27 (dk_at dksX4_draft_2 17 rfl rfl)
theorem dX4_draft_65 : decode cX4_draft 65 = .ok (.iaload, 1) := dk_46 (dk_at dksX4_draft_2 18 rfl rfl)
theorem dX4_draft_66 : decode cX4_draft 66 = .ok (.ireturn, 1) := dk_172 (dk_at dksX4_draft_2 19 rfl rfl)
theorem dX4_draft_67 : decode cX4_draft 67 = .ok (.iinc 3 1, 3) := dk_132 3 1 (dk_at dksX4_draft_2 20 rfl rfl)
theorem dX4_draft_70 : decode cX4_draft 70 = .ok (.goto (-43), 3) := dk_167 255 213 (dk_at dksX4_draft_3 0 rfl rfl)
theorem dX4_draft_73 : decode cX4_draft 73 = .ok (.aload_n 0, 1) := dk_42 (dk_at dksX4_draft_3 3 rfl rfl)
theorem dX4_draft_74 : decode cX4_draft 74 = .ok (.getfield 19, 3) := dk_180 0 19 (dk_at dksX4_draft_3 4 rfl rfl)
theorem dX4_draft_77 : decode cX4_draft 77 = .ok (.iload_n 1, 1) := dk_27 (dk_at dksX4_draft_3 7 rfl rfl)
theorem dX4_draft_78 : decode cX4_draft 78 = .ok (.iaload, 1) := dk_46 (dk_at dksX4_draft_3 8 rfl rfl)
theorem dX4_draft_79 : decode cX4_draft 79 = .ok (.bipush 6, 2) := dk_16 6 (dk_at dksX4_draft_3 9 rfl rfl)
theorem dX4_draft_81 : decode cX4_draft 81 = .ok (.if_icmp .ne 7, 3) := dk_160 0 7 (dk_at dksX4_draft_3 11 rfl rfl)
theorem dX4_draft_84 : decode cX4_draft 84 = .ok (.ldc_w 309, 3) := dk_19 1 53 (dk_at dksX4_draft_3 14 rfl rfl)
theorem dX4_draft_87 : decode cX4_draft 87 = .ok (.ireturn, 1) := dk_172 (dk_at dksX4_draft_3 17 rfl rfl)
theorem dX4_draft_88 : decode cX4_draft 88 = .ok (.aload_n 0, 1) := dk_42 (dk_at dksX4_draft_3 18 rfl rfl)
theorem dX4_draft_89 : decode cX4_draft 89 = .ok (.getfield 9, 3) := dk_180 0 9 (dk_at dksX4_draft_3 19 rfl rfl)
theorem dX4_draft_92 : decode cX4_draft 92 = .ok (.bipush 65, 2) := dk_16 65 (dk_at dksX4_draft_3 22 rfl rfl)
theorem dX4_draft_94 : decode cX4_draft 94 = .ok (.iload_n 2, 1) := dk_28 (dk_at dksX4_draft_4 0 rfl rfl)
theorem dX4_draft_95 : decode cX4_draft 95 = .ok (.imul, 1) := dk_104 (dk_at dksX4_draft_4 1 rfl rfl)
theorem dX4_draft_96 : decode cX4_draft 96 = .ok (.aload_n 0, 1) := dk_42 (dk_at dksX4_draft_4 2 rfl rfl)
theorem dX4_draft_97 : decode cX4_draft 97 = .ok (.getfield 16, 3) := dk_180 0 16 (dk_at dksX4_draft_4 3 rfl rfl)
theorem dX4_draft_100 : decode cX4_draft 100 = .ok (.iload_n 1, 1) := dk_27 (dk_at dksX4_draft_4 6 rfl rfl)
theorem dX4_draft_101 : decode cX4_draft 101 = .ok (.aload_n 0, 1) := dk_42 (dk_at dksX4_draft_4 7 rfl rfl)
theorem dX4_draft_102 : decode cX4_draft 102 = .ok (.getfield 19, 3) := dk_180 0 19 (dk_at dksX4_draft_4 8 rfl rfl)
theorem dX4_draft_105 : decode cX4_draft 105 = .ok (.iload_n 1, 1) := dk_27 (dk_at dksX4_draft_4 11 rfl rfl)
theorem dX4_draft_106 : decode cX4_draft 106 = .ok (.iaload, 1) := dk_46 (dk_at dksX4_draft_4 12 rfl rfl)
theorem dX4_draft_107 : decode cX4_draft 107 = .ok (.invokestatic 302, 3) := dk_184 1 46 (dk_at dksX4_draft_4 13 rfl rfl)
theorem dX4_draft_110 : decode cX4_draft 110 = .ok (.invokestatic 231, 3) := dk_184 0 231 (dk_at dksX4_draft_4 16 rfl rfl)
theorem dX4_draft_113 : decode cX4_draft 113 = .ok (.aload_n 0, 1) := dk_42 (dk_at dksX4_draft_4 19 rfl rfl)
theorem dX4_draft_114 : decode cX4_draft 114 = .ok (.getfield 19, 3) := dk_180 0 19 (dk_at dksX4_draft_4 20 rfl rfl)
theorem dX4_draft_117 : decode cX4_draft 117 = .ok (.iload_n 1, 1) := dk_27 (dk_at dksX4_draft_4 23 rfl rfl)
theorem dX4_draft_118 : decode cX4_draft 118 = .ok (.dup2, 1) := dk_92 (dk_at dksX4_draft_5 0 rfl rfl)
theorem dX4_draft_119 : decode cX4_draft 119 = .ok (.iaload, 1) := dk_46 (dk_at dksX4_draft_5 1 rfl rfl)
theorem dX4_draft_120 : decode cX4_draft 120 = .ok (.iconst 1, 1) := dk_4 (dk_at dksX4_draft_5 2 rfl rfl)
theorem dX4_draft_121 : decode cX4_draft 121 = .ok (.iadd, 1) := dk_96 (dk_at dksX4_draft_5 3 rfl rfl)
theorem dX4_draft_122 : decode cX4_draft 122 = .ok (.iastore, 1) := dk_79 (dk_at dksX4_draft_5 4 rfl rfl)
theorem dX4_draft_123 : decode cX4_draft 123 = .ok (.aload_n 0, 1) := dk_42 (dk_at dksX4_draft_5 5 rfl rfl)
theorem dX4_draft_124 : decode cX4_draft 124 = .ok (.getfield 19, 3) := dk_180 0 19 (dk_at dksX4_draft_5 6 rfl rfl)
theorem dX4_draft_127 : decode cX4_draft 127 = .ok (.iload_n 1, 1) := dk_27 (dk_at dksX4_draft_5 9 rfl rfl)
theorem dX4_draft_128 : decode cX4_draft 128 = .ok (.iaload, 1) := dk_46 (dk_at dksX4_draft_5 10 rfl rfl)
theorem dX4_draft_129 : decode cX4_draft 129 = .ok (.ireturn, 1) := dk_172 (dk_at dksX4_draft_5 11 rfl rfl)
abbrev cX4_draftAt : ByteArray := prog_18_method_50_code
def yX4_draftAt : MethodName := ⟨RX4, "draftAt", "(II)I"⟩
def dkwX4_draftAt_0 : List UInt8 := [16, 65, 16, 6, 26, 104, 27, 96, 104, 172]
abbrev dktX4_draftAt_0 : List UInt8 := dkwX4_draftAt_0 ++ []
theorem dksX4_draftAt_0 : cX4_draftAt.data.toList.drop 0 = dktX4_draftAt_0 := by decide +kernel
theorem dX4_draftAt_0 : decode cX4_draftAt 0 = .ok (.bipush 65, 2) := dk_16 65 (dk_at dksX4_draftAt_0 0 rfl rfl)
theorem dX4_draftAt_2 : decode cX4_draftAt 2 = .ok (.bipush 6, 2) := dk_16 6 (dk_at dksX4_draftAt_0 2 rfl rfl)
theorem dX4_draftAt_4 : decode cX4_draftAt 4 = .ok (.iload_n 0, 1) := dk_26 (dk_at dksX4_draftAt_0 4 rfl rfl)
theorem dX4_draftAt_5 : decode cX4_draftAt 5 = .ok (.imul, 1) := dk_104 (dk_at dksX4_draftAt_0 5 rfl rfl)
theorem dX4_draftAt_6 : decode cX4_draftAt 6 = .ok (.iload_n 1, 1) := dk_27 (dk_at dksX4_draftAt_0 6 rfl rfl)
theorem dX4_draftAt_7 : decode cX4_draftAt 7 = .ok (.iadd, 1) := dk_96 (dk_at dksX4_draftAt_0 7 rfl rfl)
theorem dX4_draftAt_8 : decode cX4_draftAt 8 = .ok (.imul, 1) := dk_104 (dk_at dksX4_draftAt_0 8 rfl rfl)
theorem dX4_draftAt_9 : decode cX4_draftAt 9 = .ok (.ireturn, 1) := dk_172 (dk_at dksX4_draftAt_0 9 rfl rfl)
abbrev cX4_areSame : ByteArray := prog_18_method_6_code
def yX4_areSame : MethodName := ⟨RX4, "areSame", "([II[II)Z"⟩
def dkwX4_areSame_2 : List UInt8 := [160, 0, 7, 4, 167, 0, 4, 3, 54, 4, 132, 5, 1, 167, 255, 216, 21, 4, 172]
abbrev dktX4_areSame_2 : List UInt8 := dkwX4_areSame_2 ++ []
def dkwX4_areSame_1 : List UInt8 := [46, 104, 163, 0, 36, 21, 4, 153, 0, 31, 42, 27, 21, 5, 96, 46, 44, 29, 21, 5, 96, 46]
abbrev dktX4_areSame_1 : List UInt8 := dkwX4_areSame_1 ++ dktX4_areSame_2
def dkwX4_areSame_0 : List UInt8 := [42, 27, 46, 44, 29, 46, 160, 0, 7, 4, 167, 0, 4, 3, 54, 4, 4, 54, 5, 21, 5, 5, 42, 27]
abbrev dktX4_areSame_0 : List UInt8 := dkwX4_areSame_0 ++ dktX4_areSame_1
theorem dksX4_areSame_0 : cX4_areSame.data.toList.drop 0 = dktX4_areSame_0 := by decide +kernel
theorem dksX4_areSame_1 : cX4_areSame.data.toList.drop 24 = dktX4_areSame_1 := dk_seg dksX4_areSame_0 24 rfl rfl
theorem dksX4_areSame_2 : cX4_areSame.data.toList.drop 46 = dktX4_areSame_2 := dk_seg dksX4_areSame_1 22 rfl rfl
theorem dX4_areSame_0 : decode cX4_areSame 0 = .ok (.aload_n 0, 1) := dk_42 (dk_at dksX4_areSame_0 0 rfl rfl)
theorem dX4_areSame_1 : decode cX4_areSame 1 = .ok (.iload_n 1, 1) := dk_27 (dk_at dksX4_areSame_0 1 rfl rfl)
theorem dX4_areSame_2 : decode cX4_areSame 2 = .ok (.iaload, 1) := dk_46 (dk_at dksX4_areSame_0 2 rfl rfl)
theorem dX4_areSame_3 : decode cX4_areSame 3 = .ok (.aload_n 2, 1) := dk_44 (dk_at dksX4_areSame_0 3 rfl rfl)
theorem dX4_areSame_4 : decode cX4_areSame 4 = .ok (.iload_n 3, 1) := dk_29 (dk_at dksX4_areSame_0 4 rfl rfl)
theorem dX4_areSame_5 : decode cX4_areSame 5 = .ok (.iaload, 1) := dk_46 (dk_at dksX4_areSame_0 5 rfl rfl)
theorem dX4_areSame_6 : decode cX4_areSame 6 = .ok (.if_icmp .ne 7, 3) := dk_160 0 7 (dk_at dksX4_areSame_0 6 rfl rfl)
theorem dX4_areSame_9 : decode cX4_areSame 9 = .ok (.iconst 1, 1) := dk_4 (dk_at dksX4_areSame_0 9 rfl rfl)
theorem dX4_areSame_10 : decode cX4_areSame 10 = .ok (.goto 4, 3) := dk_167 0 4 (dk_at dksX4_areSame_0 10 rfl rfl)
theorem dX4_areSame_13 : decode cX4_areSame 13 = .ok (.iconst 0, 1) := dk_3 (dk_at dksX4_areSame_0 13 rfl rfl)
theorem dX4_areSame_14 : decode cX4_areSame 14 = .ok (.istore 4, 2) := dk_54 4 (dk_at dksX4_areSame_0 14 rfl rfl)
theorem dX4_areSame_16 : decode cX4_areSame 16 = .ok (.iconst 1, 1) := dk_4 (dk_at dksX4_areSame_0 16 rfl rfl)
theorem dX4_areSame_17 : decode cX4_areSame 17 = .ok (.istore 5, 2) := dk_54 5 (dk_at dksX4_areSame_0 17 rfl rfl)
theorem dX4_areSame_19 : decode cX4_areSame 19 = .ok (.iload 5, 2) := dk_21 5 (dk_at dksX4_areSame_0 19 rfl rfl)
theorem dX4_areSame_21 : decode cX4_areSame 21 = .ok (.iconst 2, 1) := dk_5 (dk_at dksX4_areSame_0 21 rfl rfl)
theorem dX4_areSame_22 : decode cX4_areSame 22 = .ok (.aload_n 0, 1) := dk_42 (dk_at dksX4_areSame_0 22 rfl rfl)
theorem dX4_areSame_23 : decode cX4_areSame 23 = .ok (.iload_n 1, 1) := dk_27 (dk_at dksX4_areSame_0 23 rfl rfl)
theorem dX4_areSame_24 : decode cX4_areSame 24 = .ok (.iaload, 1) := dk_46 (dk_at dksX4_areSame_1 0 rfl rfl)
theorem dX4_areSame_25 : decode cX4_areSame 25 = .ok (.imul, 1) := dk_104 (dk_at dksX4_areSame_1 1 rfl rfl)
theorem dX4_areSame_26 : decode cX4_areSame 26 = .ok (.if_icmp .gt 36, 3) := dk_163 0 36 (dk_at dksX4_areSame_1 2 rfl rfl)
theorem dX4_areSame_29 : decode cX4_areSame 29 = .ok (.iload 4, 2) := dk_21 4 (dk_at dksX4_areSame_1 5 rfl rfl)
theorem dX4_areSame_31 : decode cX4_areSame 31 = .ok (.ifCond .eq 31, 3) := dk_153 0 31 (dk_at dksX4_areSame_1 7 rfl rfl)
theorem dX4_areSame_34 : decode cX4_areSame 34 = .ok (.aload_n 0, 1) := dk_42 (dk_at dksX4_areSame_1 10 rfl rfl)
theorem dX4_areSame_35 : decode cX4_areSame 35 = .ok (.iload_n 1, 1) := dk_27 (dk_at dksX4_areSame_1 11 rfl rfl)
theorem dX4_areSame_36 : decode cX4_areSame 36 = .ok (.iload 5, 2) := dk_21 5 (dk_at dksX4_areSame_1 12 rfl rfl)
theorem dX4_areSame_38 : decode cX4_areSame 38 = .ok (.iadd, 1) := dk_96 (dk_at dksX4_areSame_1 14 rfl rfl)
theorem dX4_areSame_39 : decode cX4_areSame 39 = .ok (.iaload, 1) := dk_46 (dk_at dksX4_areSame_1 15 rfl rfl)
theorem dX4_areSame_40 : decode cX4_areSame 40 = .ok (.aload_n 2, 1) := dk_44 (dk_at dksX4_areSame_1 16 rfl rfl)
theorem dX4_areSame_41 : decode cX4_areSame 41 = .ok (.iload_n 3, 1) := dk_29 (dk_at dksX4_areSame_1 17 rfl rfl)
theorem dX4_areSame_42 : decode cX4_areSame 42 = .ok (.iload 5, 2) := dk_21 5 (dk_at dksX4_areSame_1 18 rfl rfl)
theorem dX4_areSame_44 : decode cX4_areSame 44 = .ok (.iadd, 1) := dk_96 (dk_at dksX4_areSame_1 20 rfl rfl)
theorem dX4_areSame_45 : decode cX4_areSame 45 = .ok (.iaload, 1) := dk_46 (dk_at dksX4_areSame_1 21 rfl rfl)
theorem dX4_areSame_46 : decode cX4_areSame 46 = .ok (.if_icmp .ne 7, 3) := dk_160 0 7 (dk_at dksX4_areSame_2 0 rfl rfl)
theorem dX4_areSame_49 : decode cX4_areSame 49 = .ok (.iconst 1, 1) := dk_4 (dk_at dksX4_areSame_2 3 rfl rfl)
theorem dX4_areSame_50 : decode cX4_areSame 50 = .ok (.goto 4, 3) := dk_167 0 4 (dk_at dksX4_areSame_2 4 rfl rfl)
theorem dX4_areSame_53 : decode cX4_areSame 53 = .ok (.iconst 0, 1) := dk_3 (dk_at dksX4_areSame_2 7 rfl rfl)
theorem dX4_areSame_54 : decode cX4_areSame 54 = .ok (.istore 4, 2) := dk_54 4 (dk_at dksX4_areSame_2 8 rfl rfl)
theorem dX4_areSame_56 : decode cX4_areSame 56 = .ok (.iinc 5 1, 3) := dk_132 5 1 (dk_at dksX4_areSame_2 10 rfl rfl)
theorem dX4_areSame_59 : decode cX4_areSame 59 = .ok (.goto (-40), 3) := dk_167 255 216 (dk_at dksX4_areSame_2 13 rfl rfl)
theorem dX4_areSame_62 : decode cX4_areSame 62 = .ok (.iload 4, 2) := dk_21 4 (dk_at dksX4_areSame_2 16 rfl rfl)
theorem dX4_areSame_64 : decode cX4_areSame 64 = .ok (.ireturn, 1) := dk_172 (dk_at dksX4_areSame_2 18 rfl rfl)
abbrev cX4_clearDraft : ByteArray := prog_18_method_52_code
def yX4_clearDraft : MethodName := ⟨RX4, "clearDraft", "()I"⟩
def dkwX4_clearDraft_1 : List UInt8 := [3, 79, 42, 180, 0, 19, 4, 3, 79, 27, 172]
abbrev dktX4_clearDraft_1 : List UInt8 := dkwX4_clearDraft_1 ++ []
def dkwX4_clearDraft_0 : List UInt8 := [42, 3, 181, 0, 146, 42, 180, 0, 19, 3, 46, 42, 180, 0, 19, 4, 46, 96, 60, 42, 180, 0, 19, 3]
abbrev dktX4_clearDraft_0 : List UInt8 := dkwX4_clearDraft_0 ++ dktX4_clearDraft_1
theorem dksX4_clearDraft_0 : cX4_clearDraft.data.toList.drop 0 = dktX4_clearDraft_0 := by decide +kernel
theorem dksX4_clearDraft_1 : cX4_clearDraft.data.toList.drop 24 = dktX4_clearDraft_1 := dk_seg dksX4_clearDraft_0 24 rfl rfl
theorem dX4_clearDraft_0 : decode cX4_clearDraft 0 = .ok (.aload_n 0, 1) := dk_42 (dk_at dksX4_clearDraft_0 0 rfl rfl)
theorem dX4_clearDraft_1 : decode cX4_clearDraft 1 = .ok (.iconst 0, 1) := dk_3 (dk_at dksX4_clearDraft_0 1 rfl rfl)
theorem dX4_clearDraft_2 : decode cX4_clearDraft 2 = .ok (.putfield 146, 3) := dk_181 0 146 (dk_at dksX4_clearDraft_0 2 rfl rfl)
theorem dX4_clearDraft_5 : decode cX4_clearDraft 5 = .ok (.aload_n 0, 1) := dk_42 (dk_at dksX4_clearDraft_0 5 rfl rfl)
theorem dX4_clearDraft_6 : decode cX4_clearDraft 6 = .ok (.getfield 19, 3) := dk_180 0 19 (dk_at dksX4_clearDraft_0 6 rfl rfl)
theorem dX4_clearDraft_9 : decode cX4_clearDraft 9 = .ok (.iconst 0, 1) := dk_3 (dk_at dksX4_clearDraft_0 9 rfl rfl)
theorem dX4_clearDraft_10 : decode cX4_clearDraft 10 = .ok (.iaload, 1) := dk_46 (dk_at dksX4_clearDraft_0 10 rfl rfl)
theorem dX4_clearDraft_11 : decode cX4_clearDraft 11 = .ok (.aload_n 0, 1) := dk_42 (dk_at dksX4_clearDraft_0 11 rfl rfl)
theorem dX4_clearDraft_12 : decode cX4_clearDraft 12 = .ok (.getfield 19, 3) := dk_180 0 19 (dk_at dksX4_clearDraft_0 12 rfl rfl)
theorem dX4_clearDraft_15 : decode cX4_clearDraft 15 = .ok (.iconst 1, 1) := dk_4 (dk_at dksX4_clearDraft_0 15 rfl rfl)
theorem dX4_clearDraft_16 : decode cX4_clearDraft 16 = .ok (.iaload, 1) := dk_46 (dk_at dksX4_clearDraft_0 16 rfl rfl)
theorem dX4_clearDraft_17 : decode cX4_clearDraft 17 = .ok (.iadd, 1) := dk_96 (dk_at dksX4_clearDraft_0 17 rfl rfl)
theorem dX4_clearDraft_18 : decode cX4_clearDraft 18 = .ok (.istore_n 1, 1) := dk_60 (dk_at dksX4_clearDraft_0 18 rfl rfl)
theorem dX4_clearDraft_19 : decode cX4_clearDraft 19 = .ok (.aload_n 0, 1) := dk_42 (dk_at dksX4_clearDraft_0 19 rfl rfl)
theorem dX4_clearDraft_20 : decode cX4_clearDraft 20 = .ok (.getfield 19, 3) := dk_180 0 19 (dk_at dksX4_clearDraft_0 20 rfl rfl)
theorem dX4_clearDraft_23 : decode cX4_clearDraft 23 = .ok (.iconst 0, 1) := dk_3 (dk_at dksX4_clearDraft_0 23 rfl rfl)
theorem dX4_clearDraft_24 : decode cX4_clearDraft 24 = .ok (.iconst 0, 1) := dk_3 (dk_at dksX4_clearDraft_1 0 rfl rfl)
theorem dX4_clearDraft_25 : decode cX4_clearDraft 25 = .ok (.iastore, 1) := dk_79 (dk_at dksX4_clearDraft_1 1 rfl rfl)
theorem dX4_clearDraft_26 : decode cX4_clearDraft 26 = .ok (.aload_n 0, 1) := dk_42 (dk_at dksX4_clearDraft_1 2 rfl rfl)
theorem dX4_clearDraft_27 : decode cX4_clearDraft 27 = .ok (.getfield 19, 3) := dk_180 0 19 (dk_at dksX4_clearDraft_1 3 rfl rfl)
theorem dX4_clearDraft_30 : decode cX4_clearDraft 30 = .ok (.iconst 1, 1) := dk_4 (dk_at dksX4_clearDraft_1 6 rfl rfl)
theorem dX4_clearDraft_31 : decode cX4_clearDraft 31 = .ok (.iconst 0, 1) := dk_3 (dk_at dksX4_clearDraft_1 7 rfl rfl)
theorem dX4_clearDraft_32 : decode cX4_clearDraft 32 = .ok (.iastore, 1) := dk_79 (dk_at dksX4_clearDraft_1 8 rfl rfl)
theorem dX4_clearDraft_33 : decode cX4_clearDraft 33 = .ok (.iload_n 1, 1) := dk_27 (dk_at dksX4_clearDraft_1 9 rfl rfl)
theorem dX4_clearDraft_34 : decode cX4_clearDraft 34 = .ok (.ireturn, 1) := dk_172 (dk_at dksX4_clearDraft_1 10 rfl rfl)
abbrev cX4_examineDraft : ByteArray := prog_18_method_55_code
def yX4_examineDraft : MethodName := ⟨RX4, "examineDraft", "(I)I"⟩
def dkwX4_examineDraft_5 : List UInt8 := [21, 5, 153, 0, 7, 4, 167, 0, 4, 3, 96, 61, 132, 4, 1, 167, 255, 167, 28, 172]
abbrev dktX4_examineDraft_5 : List UInt8 := dkwX4_examineDraft_5 ++ []
def dkwX4_examineDraft_4 : List UInt8 := [42, 180, 0, 55, 21, 4, 46, 29, 182, 0, 196, 18, 195, 159, 0, 7, 4, 167, 0, 4, 3, 54, 5, 28]
abbrev dktX4_examineDraft_4 : List UInt8 := dkwX4_examineDraft_4 ++ dktX4_examineDraft_5
def dkwX4_examineDraft_3 : List UInt8 := [21, 4, 29, 182, 1, 57, 167, 0, 39, 42, 29, 153, 0, 13, 42, 180, 0, 52, 21, 4, 46, 167, 0, 10]
abbrev dktX4_examineDraft_3 : List UInt8 := dkwX4_examineDraft_3 ++ dktX4_examineDraft_4
def dkwX4_examineDraft_2 : List UInt8 := [153, 0, 10, 42, 180, 0, 166, 167, 0, 7, 42, 180, 0, 169, 162, 0, 75, 27, 5, 162, 0, 13, 42]
abbrev dktX4_examineDraft_2 : List UInt8 := dkwX4_examineDraft_2 ++ dktX4_examineDraft_3
def dkwX4_examineDraft_1 : List UInt8 := [182, 0, 204, 3, 61, 27, 5, 112, 154, 0, 7, 4, 167, 0, 4, 3, 62, 3, 54, 4, 21, 4, 29]
abbrev dktX4_examineDraft_1 : List UInt8 := dkwX4_examineDraft_1 ++ dktX4_examineDraft_2
def dkwX4_examineDraft_0 : List UInt8 := [42, 3, 181, 0, 146, 27, 3, 6, 184, 0, 153, 154, 0, 7, 19, 1, 37, 172, 42, 182, 1, 54, 42]
abbrev dktX4_examineDraft_0 : List UInt8 := dkwX4_examineDraft_0 ++ dktX4_examineDraft_1
theorem dksX4_examineDraft_0 : cX4_examineDraft.data.toList.drop 0 = dktX4_examineDraft_0 := by decide +kernel
theorem dksX4_examineDraft_1 : cX4_examineDraft.data.toList.drop 23 = dktX4_examineDraft_1 := dk_seg dksX4_examineDraft_0 23 rfl rfl
theorem dksX4_examineDraft_2 : cX4_examineDraft.data.toList.drop 46 = dktX4_examineDraft_2 := dk_seg dksX4_examineDraft_1 23 rfl rfl
theorem dksX4_examineDraft_3 : cX4_examineDraft.data.toList.drop 69 = dktX4_examineDraft_3 := dk_seg dksX4_examineDraft_2 23 rfl rfl
theorem dksX4_examineDraft_4 : cX4_examineDraft.data.toList.drop 93 = dktX4_examineDraft_4 := dk_seg dksX4_examineDraft_3 24 rfl rfl
theorem dksX4_examineDraft_5 : cX4_examineDraft.data.toList.drop 117 = dktX4_examineDraft_5 := dk_seg dksX4_examineDraft_4 24 rfl rfl
theorem dX4_examineDraft_0 : decode cX4_examineDraft 0 = .ok (.aload_n 0, 1) := dk_42 (dk_at dksX4_examineDraft_0 0 rfl rfl)
theorem dX4_examineDraft_1 : decode cX4_examineDraft 1 = .ok (.iconst 0, 1) := dk_3 (dk_at dksX4_examineDraft_0 1 rfl rfl)
theorem dX4_examineDraft_2 : decode cX4_examineDraft 2 = .ok (.putfield 146, 3) := dk_181 0 146 (dk_at dksX4_examineDraft_0 2 rfl rfl)
theorem dX4_examineDraft_5 : decode cX4_examineDraft 5 = .ok (.iload_n 1, 1) := dk_27 (dk_at dksX4_examineDraft_0 5 rfl rfl)
theorem dX4_examineDraft_6 : decode cX4_examineDraft 6 = .ok (.iconst 0, 1) := dk_3 (dk_at dksX4_examineDraft_0 6 rfl rfl)
theorem dX4_examineDraft_7 : decode cX4_examineDraft 7 = .ok (.iconst 3, 1) := dk_6 (dk_at dksX4_examineDraft_0 7 rfl rfl)
theorem dX4_examineDraft_8 : decode cX4_examineDraft 8 = .ok (.invokestatic 153, 3) := dk_184 0 153 (dk_at dksX4_examineDraft_0 8 rfl rfl)
theorem dX4_examineDraft_11 : decode cX4_examineDraft 11 = .ok (.ifCond .ne 7, 3) := dk_154 0 7 (dk_at dksX4_examineDraft_0 11 rfl rfl)
theorem dX4_examineDraft_14 : decode cX4_examineDraft 14 = .ok (.ldc_w 293, 3) := dk_19 1 37 (dk_at dksX4_examineDraft_0 14 rfl rfl)
theorem dX4_examineDraft_17 : decode cX4_examineDraft 17 = .ok (.ireturn, 1) := dk_172 (dk_at dksX4_examineDraft_0 17 rfl rfl)
theorem dX4_examineDraft_18 : decode cX4_examineDraft 18 = .ok (.aload_n 0, 1) := dk_42 (dk_at dksX4_examineDraft_0 18 rfl rfl)
theorem dX4_examineDraft_19 : decode cX4_examineDraft 19 = .ok (.invokevirtual 310, 3) := dk_182 1 54 (dk_at dksX4_examineDraft_0 19 rfl rfl)
theorem dX4_examineDraft_22 : decode cX4_examineDraft 22 = .ok (.aload_n 0, 1) := dk_42 (dk_at dksX4_examineDraft_0 22 rfl rfl)
theorem dX4_examineDraft_23 : decode cX4_examineDraft 23 = .ok (.invokevirtual 204, 3) := dk_182 0 204 (dk_at dksX4_examineDraft_1 0 rfl rfl)
theorem dX4_examineDraft_26 : decode cX4_examineDraft 26 = .ok (.iconst 0, 1) := dk_3 (dk_at dksX4_examineDraft_1 3 rfl rfl)
theorem dX4_examineDraft_27 : decode cX4_examineDraft 27 = .ok (.istore_n 2, 1) := dk_61 (dk_at dksX4_examineDraft_1 4 rfl rfl)
theorem dX4_examineDraft_28 : decode cX4_examineDraft 28 = .ok (.iload_n 1, 1) := dk_27 (dk_at dksX4_examineDraft_1 5 rfl rfl)
theorem dX4_examineDraft_29 : decode cX4_examineDraft 29 = .ok (.iconst 2, 1) := dk_5 (dk_at dksX4_examineDraft_1 6 rfl rfl)
theorem dX4_examineDraft_30 : decode cX4_examineDraft 30 = .ok (.irem, 1) := dk_112 (dk_at dksX4_examineDraft_1 7 rfl rfl)
theorem dX4_examineDraft_31 : decode cX4_examineDraft 31 = .ok (.ifCond .ne 7, 3) := dk_154 0 7 (dk_at dksX4_examineDraft_1 8 rfl rfl)
theorem dX4_examineDraft_34 : decode cX4_examineDraft 34 = .ok (.iconst 1, 1) := dk_4 (dk_at dksX4_examineDraft_1 11 rfl rfl)
theorem dX4_examineDraft_35 : decode cX4_examineDraft 35 = .ok (.goto 4, 3) := dk_167 0 4 (dk_at dksX4_examineDraft_1 12 rfl rfl)
theorem dX4_examineDraft_38 : decode cX4_examineDraft 38 = .ok (.iconst 0, 1) := dk_3 (dk_at dksX4_examineDraft_1 15 rfl rfl)
theorem dX4_examineDraft_39 : decode cX4_examineDraft 39 = .ok (.istore_n 3, 1) := dk_62 (dk_at dksX4_examineDraft_1 16 rfl rfl)
theorem dX4_examineDraft_40 : decode cX4_examineDraft 40 = .ok (.iconst 0, 1) := dk_3 (dk_at dksX4_examineDraft_1 17 rfl rfl)
theorem dX4_examineDraft_41 : decode cX4_examineDraft 41 = .ok (.istore 4, 2) := dk_54 4 (dk_at dksX4_examineDraft_1 18 rfl rfl)
theorem dX4_examineDraft_43 : decode cX4_examineDraft 43 = .ok (.iload 4, 2) := dk_21 4 (dk_at dksX4_examineDraft_1 20 rfl rfl)
theorem dX4_examineDraft_45 : decode cX4_examineDraft 45 = .ok (.iload_n 3, 1) := dk_29 (dk_at dksX4_examineDraft_1 22 rfl rfl)
theorem dX4_examineDraft_46 : decode cX4_examineDraft 46 = .ok (.ifCond .eq 10, 3) := dk_153 0 10 (dk_at dksX4_examineDraft_2 0 rfl rfl)
theorem dX4_examineDraft_49 : decode cX4_examineDraft 49 = .ok (.aload_n 0, 1) := dk_42 (dk_at dksX4_examineDraft_2 3 rfl rfl)
theorem dX4_examineDraft_50 : decode cX4_examineDraft 50 = .ok (.getfield 166, 3) := dk_180 0 166 (dk_at dksX4_examineDraft_2 4 rfl rfl)
theorem dX4_examineDraft_53 : decode cX4_examineDraft 53 = .ok (.goto 7, 3) := dk_167 0 7 (dk_at dksX4_examineDraft_2 7 rfl rfl)
theorem dX4_examineDraft_56 : decode cX4_examineDraft 56 = .ok (.aload_n 0, 1) := dk_42 (dk_at dksX4_examineDraft_2 10 rfl rfl)
theorem dX4_examineDraft_57 : decode cX4_examineDraft 57 = .ok (.getfield 169, 3) := dk_180 0 169 (dk_at dksX4_examineDraft_2 11 rfl rfl)
theorem dX4_examineDraft_60 : decode cX4_examineDraft 60 = .ok (.if_icmp .ge 75, 3) := dk_162 0 75 (dk_at dksX4_examineDraft_2 14 rfl rfl)
theorem dX4_examineDraft_63 : decode cX4_examineDraft 63 = .ok (.iload_n 1, 1) := dk_27 (dk_at dksX4_examineDraft_2 17 rfl rfl)
theorem dX4_examineDraft_64 : decode cX4_examineDraft 64 = .ok (.iconst 2, 1) := dk_5 (dk_at dksX4_examineDraft_2 18 rfl rfl)
theorem dX4_examineDraft_65 : decode cX4_examineDraft 65 = .ok (.if_icmp .ge 13, 3) := dk_162 0 13 (dk_at dksX4_examineDraft_2 19 rfl rfl)
theorem dX4_examineDraft_68 : decode cX4_examineDraft 68 = .ok (.aload_n 0, 1) := dk_42 (dk_at dksX4_examineDraft_2 22 rfl rfl)
theorem dX4_examineDraft_69 : decode cX4_examineDraft 69 = .ok (.iload 4, 2) := dk_21 4 (dk_at dksX4_examineDraft_3 0 rfl rfl)
theorem dX4_examineDraft_71 : decode cX4_examineDraft 71 = .ok (.iload_n 3, 1) := dk_29 (dk_at dksX4_examineDraft_3 2 rfl rfl)
theorem dX4_examineDraft_72 : decode cX4_examineDraft 72 = .ok (.invokevirtual 313, 3) := dk_182 1 57 (dk_at dksX4_examineDraft_3 3 rfl rfl)
theorem dX4_examineDraft_75 : decode cX4_examineDraft 75 = .ok (.goto 39, 3) := dk_167 0 39 (dk_at dksX4_examineDraft_3 6 rfl rfl)
theorem dX4_examineDraft_78 : decode cX4_examineDraft 78 = .ok (.aload_n 0, 1) := dk_42 (dk_at dksX4_examineDraft_3 9 rfl rfl)
theorem dX4_examineDraft_79 : decode cX4_examineDraft 79 = .ok (.iload_n 3, 1) := dk_29 (dk_at dksX4_examineDraft_3 10 rfl rfl)
theorem dX4_examineDraft_80 : decode cX4_examineDraft 80 = .ok (.ifCond .eq 13, 3) := dk_153 0 13 (dk_at dksX4_examineDraft_3 11 rfl rfl)
theorem dX4_examineDraft_83 : decode cX4_examineDraft 83 = .ok (.aload_n 0, 1) := dk_42 (dk_at dksX4_examineDraft_3 14 rfl rfl)
theorem dX4_examineDraft_84 : decode cX4_examineDraft 84 = .ok (.getfield 52, 3) := dk_180 0 52 (dk_at dksX4_examineDraft_3 15 rfl rfl)
theorem dX4_examineDraft_87 : decode cX4_examineDraft 87 = .ok (.iload 4, 2) := dk_21 4 (dk_at dksX4_examineDraft_3 18 rfl rfl)
theorem dX4_examineDraft_89 : decode cX4_examineDraft 89 = .ok (.iaload, 1) := dk_46 (dk_at dksX4_examineDraft_3 20 rfl rfl)
theorem dX4_examineDraft_90 : decode cX4_examineDraft 90 = .ok (.goto 10, 3) := dk_167 0 10 (dk_at dksX4_examineDraft_3 21 rfl rfl)
theorem dX4_examineDraft_93 : decode cX4_examineDraft 93 = .ok (.aload_n 0, 1) := dk_42 (dk_at dksX4_examineDraft_4 0 rfl rfl)
theorem dX4_examineDraft_94 : decode cX4_examineDraft 94 = .ok (.getfield 55, 3) := dk_180 0 55 (dk_at dksX4_examineDraft_4 1 rfl rfl)
theorem dX4_examineDraft_97 : decode cX4_examineDraft 97 = .ok (.iload 4, 2) := dk_21 4 (dk_at dksX4_examineDraft_4 4 rfl rfl)
theorem dX4_examineDraft_99 : decode cX4_examineDraft 99 = .ok (.iaload, 1) := dk_46 (dk_at dksX4_examineDraft_4 6 rfl rfl)
theorem dX4_examineDraft_100 : decode cX4_examineDraft 100 = .ok (.iload_n 3, 1) := dk_29 (dk_at dksX4_examineDraft_4 7 rfl rfl)
theorem dX4_examineDraft_101 : decode cX4_examineDraft 101 = .ok (.invokevirtual 196, 3) := dk_182 0 196 (dk_at dksX4_examineDraft_4 8 rfl rfl)
theorem dX4_examineDraft_104 : decode cX4_examineDraft 104 = .ok (.ldc 195, 2) := dk_18 195 (dk_at dksX4_examineDraft_4 11 rfl rfl)
theorem dX4_examineDraft_106 : decode cX4_examineDraft 106 = .ok (.if_icmp .eq 7, 3) := dk_159 0 7 (dk_at dksX4_examineDraft_4 13 rfl rfl)
theorem dX4_examineDraft_109 : decode cX4_examineDraft 109 = .ok (.iconst 1, 1) := dk_4 (dk_at dksX4_examineDraft_4 16 rfl rfl)
theorem dX4_examineDraft_110 : decode cX4_examineDraft 110 = .ok (.goto 4, 3) := dk_167 0 4 (dk_at dksX4_examineDraft_4 17 rfl rfl)
theorem dX4_examineDraft_113 : decode cX4_examineDraft 113 = .ok (.iconst 0, 1) := dk_3 (dk_at dksX4_examineDraft_4 20 rfl rfl)
theorem dX4_examineDraft_114 : decode cX4_examineDraft 114 = .ok (.istore 5, 2) := dk_54 5 (dk_at dksX4_examineDraft_4 21 rfl rfl)
theorem dX4_examineDraft_116 : decode cX4_examineDraft 116 = .ok (.iload_n 2, 1) := dk_28 (dk_at dksX4_examineDraft_4 23 rfl rfl)
theorem dX4_examineDraft_117 : decode cX4_examineDraft 117 = .ok (.iload 5, 2) := dk_21 5 (dk_at dksX4_examineDraft_5 0 rfl rfl)
theorem dX4_examineDraft_119 : decode cX4_examineDraft 119 = .ok (.ifCond .eq 7, 3) := dk_153 0 7 (dk_at dksX4_examineDraft_5 2 rfl rfl)
theorem dX4_examineDraft_122 : decode cX4_examineDraft 122 = .ok (.iconst 1, 1) := dk_4 (dk_at dksX4_examineDraft_5 5 rfl rfl)
theorem dX4_examineDraft_123 : decode cX4_examineDraft 123 = .ok (.goto 4, 3) := dk_167 0 4 (dk_at dksX4_examineDraft_5 6 rfl rfl)
theorem dX4_examineDraft_126 : decode cX4_examineDraft 126 = .ok (.iconst 0, 1) := dk_3 (dk_at dksX4_examineDraft_5 9 rfl rfl)
theorem dX4_examineDraft_127 : decode cX4_examineDraft 127 = .ok (.iadd, 1) := dk_96 (dk_at dksX4_examineDraft_5 10 rfl rfl)
theorem dX4_examineDraft_128 : decode cX4_examineDraft 128 = .ok (.istore_n 2, 1) := dk_61 (dk_at dksX4_examineDraft_5 11 rfl rfl)
theorem dX4_examineDraft_129 : decode cX4_examineDraft 129 = .ok (.iinc 4 1, 3) := dk_132 4 1 (dk_at dksX4_examineDraft_5 12 rfl rfl)
theorem dX4_examineDraft_132 : decode cX4_examineDraft 132 = .ok (.goto (-89), 3) := dk_167 255 167 (dk_at dksX4_examineDraft_5 15 rfl rfl)
theorem dX4_examineDraft_135 : decode cX4_examineDraft 135 = .ok (.iload_n 2, 1) := dk_28 (dk_at dksX4_examineDraft_5 18 rfl rfl)
theorem dX4_examineDraft_136 : decode cX4_examineDraft 136 = .ok (.ireturn, 1) := dk_172 (dk_at dksX4_examineDraft_5 19 rfl rfl)
abbrev cX4_loadDraft : ByteArray := prog_18_method_53_code
def yX4_loadDraft : MethodName := ⟨RX4, "loadDraft", "()V"⟩
def dkwX4_loadDraft_6 : List UInt8 := [180, 0, 107, 16, 6, 27, 96, 46, 3, 182, 1, 0, 132, 1, 1, 167, 255, 202, 177]
abbrev dktX4_loadDraft_6 : List UInt8 := dkwX4_loadDraft_6 ++ []
def dkwX4_loadDraft_5 : List UInt8 := [42, 180, 0, 107, 27, 46, 4, 182, 1, 0, 27, 42, 180, 0, 19, 4, 46, 162, 0, 17, 42, 42]
abbrev dktX4_loadDraft_5 : List UInt8 := dkwX4_loadDraft_5 ++ dktX4_loadDraft_6
def dkwX4_loadDraft_4 : List UInt8 := [42, 3, 181, 0, 169, 3, 60, 27, 16, 6, 162, 0, 54, 27, 42, 180, 0, 19, 3, 46, 162, 0, 14, 42]
abbrev dktX4_loadDraft_4 : List UInt8 := dkwX4_loadDraft_4 ++ dktX4_loadDraft_5
def dkwX4_loadDraft_3 : List UInt8 := [184, 1, 46, 3, 182, 1, 17, 167, 0, 5, 18, 195, 79, 132, 1, 1, 167, 255, 174, 42, 3, 181, 0, 166]
abbrev dktX4_loadDraft_3 : List UInt8 := dkwX4_loadDraft_3 ++ dktX4_loadDraft_4
def dkwX4_loadDraft_2 : List UInt8 := [180, 0, 107, 16, 6, 27, 96, 27, 42, 180, 0, 19, 4, 46, 162, 0, 20, 42, 42, 180, 0, 16, 4, 27]
abbrev dktX4_loadDraft_2 : List UInt8 := dkwX4_loadDraft_2 ++ dktX4_loadDraft_3
def dkwX4_loadDraft_1 : List UInt8 := [162, 0, 20, 42, 42, 180, 0, 16, 3, 27, 184, 1, 46, 3, 182, 1, 17, 167, 0, 5, 18, 195, 79, 42]
abbrev dktX4_loadDraft_1 : List UInt8 := dkwX4_loadDraft_1 ++ dktX4_loadDraft_2
def dkwX4_loadDraft_0 : List UInt8 := [42, 182, 1, 4, 3, 60, 27, 16, 6, 162, 0, 82, 42, 180, 0, 107, 27, 27, 42, 180, 0, 19, 3, 46]
abbrev dktX4_loadDraft_0 : List UInt8 := dkwX4_loadDraft_0 ++ dktX4_loadDraft_1
theorem dksX4_loadDraft_0 : cX4_loadDraft.data.toList.drop 0 = dktX4_loadDraft_0 := by decide +kernel
theorem dksX4_loadDraft_1 : cX4_loadDraft.data.toList.drop 24 = dktX4_loadDraft_1 := dk_seg dksX4_loadDraft_0 24 rfl rfl
theorem dksX4_loadDraft_2 : cX4_loadDraft.data.toList.drop 48 = dktX4_loadDraft_2 := dk_seg dksX4_loadDraft_1 24 rfl rfl
theorem dksX4_loadDraft_3 : cX4_loadDraft.data.toList.drop 72 = dktX4_loadDraft_3 := dk_seg dksX4_loadDraft_2 24 rfl rfl
theorem dksX4_loadDraft_4 : cX4_loadDraft.data.toList.drop 96 = dktX4_loadDraft_4 := dk_seg dksX4_loadDraft_3 24 rfl rfl
theorem dksX4_loadDraft_5 : cX4_loadDraft.data.toList.drop 120 = dktX4_loadDraft_5 := dk_seg dksX4_loadDraft_4 24 rfl rfl
theorem dksX4_loadDraft_6 : cX4_loadDraft.data.toList.drop 142 = dktX4_loadDraft_6 := dk_seg dksX4_loadDraft_5 22 rfl rfl
theorem dX4_loadDraft_0 : decode cX4_loadDraft 0 = .ok (.aload_n 0, 1) := dk_42 (dk_at dksX4_loadDraft_0 0 rfl rfl)
theorem dX4_loadDraft_1 : decode cX4_loadDraft 1 = .ok (.invokevirtual 260, 3) := dk_182 1 4 (dk_at dksX4_loadDraft_0 1 rfl rfl)
theorem dX4_loadDraft_4 : decode cX4_loadDraft 4 = .ok (.iconst 0, 1) := dk_3 (dk_at dksX4_loadDraft_0 4 rfl rfl)
theorem dX4_loadDraft_5 : decode cX4_loadDraft 5 = .ok (.istore_n 1, 1) := dk_60 (dk_at dksX4_loadDraft_0 5 rfl rfl)
theorem dX4_loadDraft_6 : decode cX4_loadDraft 6 = .ok (.iload_n 1, 1) := dk_27 (dk_at dksX4_loadDraft_0 6 rfl rfl)
theorem dX4_loadDraft_7 : decode cX4_loadDraft 7 = .ok (.bipush 6, 2) := dk_16 6 (dk_at dksX4_loadDraft_0 7 rfl rfl)
theorem dX4_loadDraft_9 : decode cX4_loadDraft 9 = .ok (.if_icmp .ge 82, 3) := dk_162 0 82 (dk_at dksX4_loadDraft_0 9 rfl rfl)
theorem dX4_loadDraft_12 : decode cX4_loadDraft 12 = .ok (.aload_n 0, 1) := dk_42 (dk_at dksX4_loadDraft_0 12 rfl rfl)
theorem dX4_loadDraft_13 : decode cX4_loadDraft 13 = .ok (.getfield 107, 3) := dk_180 0 107 (dk_at dksX4_loadDraft_0 13 rfl rfl)
theorem dX4_loadDraft_16 : decode cX4_loadDraft 16 = .ok (.iload_n 1, 1) := dk_27 (dk_at dksX4_loadDraft_0 16 rfl rfl)
theorem dX4_loadDraft_17 : decode cX4_loadDraft 17 = .ok (.iload_n 1, 1) := dk_27 (dk_at dksX4_loadDraft_0 17 rfl rfl)
theorem dX4_loadDraft_18 : decode cX4_loadDraft 18 = .ok (.aload_n 0, 1) := dk_42 (dk_at dksX4_loadDraft_0 18 rfl rfl)
theorem dX4_loadDraft_19 : decode cX4_loadDraft 19 = .ok (.getfield 19, 3) := dk_180 0 19 (dk_at dksX4_loadDraft_0 19 rfl rfl)
theorem dX4_loadDraft_22 : decode cX4_loadDraft 22 = .ok (.iconst 0, 1) := dk_3 (dk_at dksX4_loadDraft_0 22 rfl rfl)
theorem dX4_loadDraft_23 : decode cX4_loadDraft 23 = .ok (.iaload, 1) := dk_46 (dk_at dksX4_loadDraft_0 23 rfl rfl)
theorem dX4_loadDraft_24 : decode cX4_loadDraft 24 = .ok (.if_icmp .ge 20, 3) := dk_162 0 20 (dk_at dksX4_loadDraft_1 0 rfl rfl)
theorem dX4_loadDraft_27 : decode cX4_loadDraft 27 = .ok (.aload_n 0, 1) := dk_42 (dk_at dksX4_loadDraft_1 3 rfl rfl)
theorem dX4_loadDraft_28 : decode cX4_loadDraft 28 = .ok (.aload_n 0, 1) := dk_42 (dk_at dksX4_loadDraft_1 4 rfl rfl)
theorem dX4_loadDraft_29 : decode cX4_loadDraft 29 = .ok (.getfield 16, 3) := dk_180 0 16 (dk_at dksX4_loadDraft_1 5 rfl rfl)
theorem dX4_loadDraft_32 : decode cX4_loadDraft 32 = .ok (.iconst 0, 1) := dk_3 (dk_at dksX4_loadDraft_1 8 rfl rfl)
theorem dX4_loadDraft_33 : decode cX4_loadDraft 33 = .ok (.iload_n 1, 1) := dk_27 (dk_at dksX4_loadDraft_1 9 rfl rfl)
theorem dX4_loadDraft_34 : decode cX4_loadDraft 34 = .ok (.invokestatic 302, 3) := dk_184 1 46 (dk_at dksX4_loadDraft_1 10 rfl rfl)
theorem dX4_loadDraft_37 : decode cX4_loadDraft 37 = .ok (.iconst 0, 1) := dk_3 (dk_at dksX4_loadDraft_1 13 rfl rfl)
theorem dX4_loadDraft_38 : decode cX4_loadDraft 38 = .ok (.invokevirtual 273, 3) := dk_182 1 17 (dk_at dksX4_loadDraft_1 14 rfl rfl)
theorem dX4_loadDraft_41 : decode cX4_loadDraft 41 = .ok (.goto 5, 3) := dk_167 0 5 (dk_at dksX4_loadDraft_1 17 rfl rfl)
theorem dX4_loadDraft_44 : decode cX4_loadDraft 44 = .ok (.ldc 195, 2) := dk_18 195 (dk_at dksX4_loadDraft_1 20 rfl rfl)
theorem dX4_loadDraft_46 : decode cX4_loadDraft 46 = .ok (.iastore, 1) := dk_79 (dk_at dksX4_loadDraft_1 22 rfl rfl)
theorem dX4_loadDraft_47 : decode cX4_loadDraft 47 = .ok (.aload_n 0, 1) := dk_42 (dk_at dksX4_loadDraft_1 23 rfl rfl)
theorem dX4_loadDraft_48 : decode cX4_loadDraft 48 = .ok (.getfield 107, 3) := dk_180 0 107 (dk_at dksX4_loadDraft_2 0 rfl rfl)
theorem dX4_loadDraft_51 : decode cX4_loadDraft 51 = .ok (.bipush 6, 2) := dk_16 6 (dk_at dksX4_loadDraft_2 3 rfl rfl)
theorem dX4_loadDraft_53 : decode cX4_loadDraft 53 = .ok (.iload_n 1, 1) := dk_27 (dk_at dksX4_loadDraft_2 5 rfl rfl)
theorem dX4_loadDraft_54 : decode cX4_loadDraft 54 = .ok (.iadd, 1) := dk_96 (dk_at dksX4_loadDraft_2 6 rfl rfl)
theorem dX4_loadDraft_55 : decode cX4_loadDraft 55 = .ok (.iload_n 1, 1) := dk_27 (dk_at dksX4_loadDraft_2 7 rfl rfl)
theorem dX4_loadDraft_56 : decode cX4_loadDraft 56 = .ok (.aload_n 0, 1) := dk_42 (dk_at dksX4_loadDraft_2 8 rfl rfl)
theorem dX4_loadDraft_57 : decode cX4_loadDraft 57 = .ok (.getfield 19, 3) := dk_180 0 19 (dk_at dksX4_loadDraft_2 9 rfl rfl)
theorem dX4_loadDraft_60 : decode cX4_loadDraft 60 = .ok (.iconst 1, 1) := dk_4 (dk_at dksX4_loadDraft_2 12 rfl rfl)
theorem dX4_loadDraft_61 : decode cX4_loadDraft 61 = .ok (.iaload, 1) := dk_46 (dk_at dksX4_loadDraft_2 13 rfl rfl)
theorem dX4_loadDraft_62 : decode cX4_loadDraft 62 = .ok (.if_icmp .ge 20, 3) := dk_162 0 20 (dk_at dksX4_loadDraft_2 14 rfl rfl)
theorem dX4_loadDraft_65 : decode cX4_loadDraft 65 = .ok (.aload_n 0, 1) := dk_42 (dk_at dksX4_loadDraft_2 17 rfl rfl)
theorem dX4_loadDraft_66 : decode cX4_loadDraft 66 = .ok (.aload_n 0, 1) := dk_42 (dk_at dksX4_loadDraft_2 18 rfl rfl)
theorem dX4_loadDraft_67 : decode cX4_loadDraft 67 = .ok (.getfield 16, 3) := dk_180 0 16 (dk_at dksX4_loadDraft_2 19 rfl rfl)
theorem dX4_loadDraft_70 : decode cX4_loadDraft 70 = .ok (.iconst 1, 1) := dk_4 (dk_at dksX4_loadDraft_2 22 rfl rfl)
theorem dX4_loadDraft_71 : decode cX4_loadDraft 71 = .ok (.iload_n 1, 1) := dk_27 (dk_at dksX4_loadDraft_2 23 rfl rfl)
theorem dX4_loadDraft_72 : decode cX4_loadDraft 72 = .ok (.invokestatic 302, 3) := dk_184 1 46 (dk_at dksX4_loadDraft_3 0 rfl rfl)
theorem dX4_loadDraft_75 : decode cX4_loadDraft 75 = .ok (.iconst 0, 1) := dk_3 (dk_at dksX4_loadDraft_3 3 rfl rfl)
theorem dX4_loadDraft_76 : decode cX4_loadDraft 76 = .ok (.invokevirtual 273, 3) := dk_182 1 17 (dk_at dksX4_loadDraft_3 4 rfl rfl)
theorem dX4_loadDraft_79 : decode cX4_loadDraft 79 = .ok (.goto 5, 3) := dk_167 0 5 (dk_at dksX4_loadDraft_3 7 rfl rfl)
theorem dX4_loadDraft_82 : decode cX4_loadDraft 82 = .ok (.ldc 195, 2) := dk_18 195 (dk_at dksX4_loadDraft_3 10 rfl rfl)
theorem dX4_loadDraft_84 : decode cX4_loadDraft 84 = .ok (.iastore, 1) := dk_79 (dk_at dksX4_loadDraft_3 12 rfl rfl)
theorem dX4_loadDraft_85 : decode cX4_loadDraft 85 = .ok (.iinc 1 1, 3) := dk_132 1 1 (dk_at dksX4_loadDraft_3 13 rfl rfl)
theorem dX4_loadDraft_88 : decode cX4_loadDraft 88 = .ok (.goto (-82), 3) := dk_167 255 174 (dk_at dksX4_loadDraft_3 16 rfl rfl)
theorem dX4_loadDraft_91 : decode cX4_loadDraft 91 = .ok (.aload_n 0, 1) := dk_42 (dk_at dksX4_loadDraft_3 19 rfl rfl)
theorem dX4_loadDraft_92 : decode cX4_loadDraft 92 = .ok (.iconst 0, 1) := dk_3 (dk_at dksX4_loadDraft_3 20 rfl rfl)
theorem dX4_loadDraft_93 : decode cX4_loadDraft 93 = .ok (.putfield 166, 3) := dk_181 0 166 (dk_at dksX4_loadDraft_3 21 rfl rfl)
theorem dX4_loadDraft_96 : decode cX4_loadDraft 96 = .ok (.aload_n 0, 1) := dk_42 (dk_at dksX4_loadDraft_4 0 rfl rfl)
theorem dX4_loadDraft_97 : decode cX4_loadDraft 97 = .ok (.iconst 0, 1) := dk_3 (dk_at dksX4_loadDraft_4 1 rfl rfl)
theorem dX4_loadDraft_98 : decode cX4_loadDraft 98 = .ok (.putfield 169, 3) := dk_181 0 169 (dk_at dksX4_loadDraft_4 2 rfl rfl)
theorem dX4_loadDraft_101 : decode cX4_loadDraft 101 = .ok (.iconst 0, 1) := dk_3 (dk_at dksX4_loadDraft_4 5 rfl rfl)
theorem dX4_loadDraft_102 : decode cX4_loadDraft 102 = .ok (.istore_n 1, 1) := dk_60 (dk_at dksX4_loadDraft_4 6 rfl rfl)
theorem dX4_loadDraft_103 : decode cX4_loadDraft 103 = .ok (.iload_n 1, 1) := dk_27 (dk_at dksX4_loadDraft_4 7 rfl rfl)
theorem dX4_loadDraft_104 : decode cX4_loadDraft 104 = .ok (.bipush 6, 2) := dk_16 6 (dk_at dksX4_loadDraft_4 8 rfl rfl)
theorem dX4_loadDraft_106 : decode cX4_loadDraft 106 = .ok (.if_icmp .ge 54, 3) := dk_162 0 54 (dk_at dksX4_loadDraft_4 10 rfl rfl)
theorem dX4_loadDraft_109 : decode cX4_loadDraft 109 = .ok (.iload_n 1, 1) := dk_27 (dk_at dksX4_loadDraft_4 13 rfl rfl)
theorem dX4_loadDraft_110 : decode cX4_loadDraft 110 = .ok (.aload_n 0, 1) := dk_42 (dk_at dksX4_loadDraft_4 14 rfl rfl)
theorem dX4_loadDraft_111 : decode cX4_loadDraft 111 = .ok (.getfield 19, 3) := dk_180 0 19 (dk_at dksX4_loadDraft_4 15 rfl rfl)
theorem dX4_loadDraft_114 : decode cX4_loadDraft 114 = .ok (.iconst 0, 1) := dk_3 (dk_at dksX4_loadDraft_4 18 rfl rfl)
theorem dX4_loadDraft_115 : decode cX4_loadDraft 115 = .ok (.iaload, 1) := dk_46 (dk_at dksX4_loadDraft_4 19 rfl rfl)
theorem dX4_loadDraft_116 : decode cX4_loadDraft 116 = .ok (.if_icmp .ge 14, 3) := dk_162 0 14 (dk_at dksX4_loadDraft_4 20 rfl rfl)
theorem dX4_loadDraft_119 : decode cX4_loadDraft 119 = .ok (.aload_n 0, 1) := dk_42 (dk_at dksX4_loadDraft_4 23 rfl rfl)
theorem dX4_loadDraft_120 : decode cX4_loadDraft 120 = .ok (.aload_n 0, 1) := dk_42 (dk_at dksX4_loadDraft_5 0 rfl rfl)
theorem dX4_loadDraft_121 : decode cX4_loadDraft 121 = .ok (.getfield 107, 3) := dk_180 0 107 (dk_at dksX4_loadDraft_5 1 rfl rfl)
theorem dX4_loadDraft_124 : decode cX4_loadDraft 124 = .ok (.iload_n 1, 1) := dk_27 (dk_at dksX4_loadDraft_5 4 rfl rfl)
theorem dX4_loadDraft_125 : decode cX4_loadDraft 125 = .ok (.iaload, 1) := dk_46 (dk_at dksX4_loadDraft_5 5 rfl rfl)
theorem dX4_loadDraft_126 : decode cX4_loadDraft 126 = .ok (.iconst 1, 1) := dk_4 (dk_at dksX4_loadDraft_5 6 rfl rfl)
theorem dX4_loadDraft_127 : decode cX4_loadDraft 127 = .ok (.invokevirtual 256, 3) := dk_182 1 0 (dk_at dksX4_loadDraft_5 7 rfl rfl)
theorem dX4_loadDraft_130 : decode cX4_loadDraft 130 = .ok (.iload_n 1, 1) := dk_27 (dk_at dksX4_loadDraft_5 10 rfl rfl)
theorem dX4_loadDraft_131 : decode cX4_loadDraft 131 = .ok (.aload_n 0, 1) := dk_42 (dk_at dksX4_loadDraft_5 11 rfl rfl)
theorem dX4_loadDraft_132 : decode cX4_loadDraft 132 = .ok (.getfield 19, 3) := dk_180 0 19 (dk_at dksX4_loadDraft_5 12 rfl rfl)
theorem dX4_loadDraft_135 : decode cX4_loadDraft 135 = .ok (.iconst 1, 1) := dk_4 (dk_at dksX4_loadDraft_5 15 rfl rfl)
theorem dX4_loadDraft_136 : decode cX4_loadDraft 136 = .ok (.iaload, 1) := dk_46 (dk_at dksX4_loadDraft_5 16 rfl rfl)
theorem dX4_loadDraft_137 : decode cX4_loadDraft 137 = .ok (.if_icmp .ge 17, 3) := dk_162 0 17 (dk_at dksX4_loadDraft_5 17 rfl rfl)
theorem dX4_loadDraft_140 : decode cX4_loadDraft 140 = .ok (.aload_n 0, 1) := dk_42 (dk_at dksX4_loadDraft_5 20 rfl rfl)
theorem dX4_loadDraft_141 : decode cX4_loadDraft 141 = .ok (.aload_n 0, 1) := dk_42 (dk_at dksX4_loadDraft_5 21 rfl rfl)
theorem dX4_loadDraft_142 : decode cX4_loadDraft 142 = .ok (.getfield 107, 3) := dk_180 0 107 (dk_at dksX4_loadDraft_6 0 rfl rfl)
theorem dX4_loadDraft_145 : decode cX4_loadDraft 145 = .ok (.bipush 6, 2) := dk_16 6 (dk_at dksX4_loadDraft_6 3 rfl rfl)
theorem dX4_loadDraft_147 : decode cX4_loadDraft 147 = .ok (.iload_n 1, 1) := dk_27 (dk_at dksX4_loadDraft_6 5 rfl rfl)
theorem dX4_loadDraft_148 : decode cX4_loadDraft 148 = .ok (.iadd, 1) := dk_96 (dk_at dksX4_loadDraft_6 6 rfl rfl)
theorem dX4_loadDraft_149 : decode cX4_loadDraft 149 = .ok (.iaload, 1) := dk_46 (dk_at dksX4_loadDraft_6 7 rfl rfl)
theorem dX4_loadDraft_150 : decode cX4_loadDraft 150 = .ok (.iconst 0, 1) := dk_3 (dk_at dksX4_loadDraft_6 8 rfl rfl)
theorem dX4_loadDraft_151 : decode cX4_loadDraft 151 = .ok (.invokevirtual 256, 3) := dk_182 1 0 (dk_at dksX4_loadDraft_6 9 rfl rfl)
theorem dX4_loadDraft_154 : decode cX4_loadDraft 154 = .ok (.iinc 1 1, 3) := dk_132 1 1 (dk_at dksX4_loadDraft_6 12 rfl rfl)
theorem dX4_loadDraft_157 : decode cX4_loadDraft 157 = .ok (.goto (-54), 3) := dk_167 255 202 (dk_at dksX4_loadDraft_6 15 rfl rfl)
theorem dX4_loadDraft_160 : decode cX4_loadDraft 160 = .ok (.return_, 1) := dk_177 (dk_at dksX4_loadDraft_6 18 rfl rfl)
abbrev cX4_load : ByteArray := prog_18_method_21_code
def yX4_load : MethodName := ⟨RX4, "load", "([IIZ)I"⟩
def dkwX4_load_7 : List UInt8 := [180, 0, 70, 21, 5, 21, 4, 79, 132, 5, 1, 167, 255, 86, 21, 4, 172]
abbrev dktX4_load_7 : List UInt8 := dkwX4_load_7 ++ []
def dkwX4_load_6 : List UInt8 := [79, 42, 89, 180, 0, 169, 4, 96, 181, 0, 169, 132, 8, 1, 167, 255, 172, 42, 182, 0, 211, 54, 4, 42]
abbrev dktX4_load_6 : List UInt8 := dkwX4_load_6 ++ dktX4_load_7
def dkwX4_load_5 : List UInt8 := [21, 8, 122, 4, 126, 4, 160, 0, 29, 42, 180, 0, 55, 42, 180, 0, 169, 42, 180, 0, 70, 21, 8, 46]
abbrev dktX4_load_5 : List UInt8 := dkwX4_load_5 ++ dktX4_load_6
def dkwX4_load_4 : List UInt8 := [180, 0, 166, 42, 180, 0, 70, 21, 8, 46, 79, 42, 89, 180, 0, 166, 4, 96, 181, 0, 166, 21, 7]
abbrev dktX4_load_4 : List UInt8 := dkwX4_load_4 ++ dktX4_load_5
def dkwX4_load_3 : List UInt8 := [21, 8, 21, 5, 162, 0, 83, 21, 6, 21, 8, 122, 4, 126, 4, 160, 0, 29, 42, 180, 0, 52, 42]
abbrev dktX4_load_3 : List UInt8 := dkwX4_load_3 ++ dktX4_load_4
def dkwX4_load_2 : List UInt8 := [5, 96, 5, 21, 5, 104, 96, 29, 153, 0, 7, 4, 167, 0, 4, 3, 100, 46, 54, 7, 3, 54, 8]
abbrev dktX4_load_2 : List UInt8 := dkwX4_load_2 ++ dktX4_load_3
def dkwX4_load_1 : List UInt8 := [43, 28, 4, 96, 5, 21, 5, 104, 96, 29, 153, 0, 7, 4, 167, 0, 4, 3, 96, 46, 54, 6, 43, 28]
abbrev dktX4_load_1 : List UInt8 := dkwX4_load_1 ++ dktX4_load_2
def dkwX4_load_0 : List UInt8 := [3, 54, 4, 3, 54, 5, 21, 5, 43, 28, 46, 162, 0, 168, 42, 3, 181, 0, 166, 42, 3, 181, 0, 169]
abbrev dktX4_load_0 : List UInt8 := dkwX4_load_0 ++ dktX4_load_1
theorem dksX4_load_0 : cX4_load.data.toList.drop 0 = dktX4_load_0 := by decide +kernel
theorem dksX4_load_1 : cX4_load.data.toList.drop 24 = dktX4_load_1 := dk_seg dksX4_load_0 24 rfl rfl
theorem dksX4_load_2 : cX4_load.data.toList.drop 48 = dktX4_load_2 := dk_seg dksX4_load_1 24 rfl rfl
theorem dksX4_load_3 : cX4_load.data.toList.drop 71 = dktX4_load_3 := dk_seg dksX4_load_2 23 rfl rfl
theorem dksX4_load_4 : cX4_load.data.toList.drop 94 = dktX4_load_4 := dk_seg dksX4_load_3 23 rfl rfl
theorem dksX4_load_5 : cX4_load.data.toList.drop 117 = dktX4_load_5 := dk_seg dksX4_load_4 23 rfl rfl
theorem dksX4_load_6 : cX4_load.data.toList.drop 141 = dktX4_load_6 := dk_seg dksX4_load_5 24 rfl rfl
theorem dksX4_load_7 : cX4_load.data.toList.drop 165 = dktX4_load_7 := dk_seg dksX4_load_6 24 rfl rfl
theorem dX4_load_0 : decode cX4_load 0 = .ok (.iconst 0, 1) := dk_3 (dk_at dksX4_load_0 0 rfl rfl)
theorem dX4_load_1 : decode cX4_load 1 = .ok (.istore 4, 2) := dk_54 4 (dk_at dksX4_load_0 1 rfl rfl)
theorem dX4_load_3 : decode cX4_load 3 = .ok (.iconst 0, 1) := dk_3 (dk_at dksX4_load_0 3 rfl rfl)
theorem dX4_load_4 : decode cX4_load 4 = .ok (.istore 5, 2) := dk_54 5 (dk_at dksX4_load_0 4 rfl rfl)
theorem dX4_load_6 : decode cX4_load 6 = .ok (.iload 5, 2) := dk_21 5 (dk_at dksX4_load_0 6 rfl rfl)
theorem dX4_load_8 : decode cX4_load 8 = .ok (.aload_n 1, 1) := dk_43 (dk_at dksX4_load_0 8 rfl rfl)
theorem dX4_load_9 : decode cX4_load 9 = .ok (.iload_n 2, 1) := dk_28 (dk_at dksX4_load_0 9 rfl rfl)
theorem dX4_load_10 : decode cX4_load 10 = .ok (.iaload, 1) := dk_46 (dk_at dksX4_load_0 10 rfl rfl)
theorem dX4_load_11 : decode cX4_load 11 = .ok (.if_icmp .ge 168, 3) := dk_162 0 168 (dk_at dksX4_load_0 11 rfl rfl)
theorem dX4_load_14 : decode cX4_load 14 = .ok (.aload_n 0, 1) := dk_42 (dk_at dksX4_load_0 14 rfl rfl)
theorem dX4_load_15 : decode cX4_load 15 = .ok (.iconst 0, 1) := dk_3 (dk_at dksX4_load_0 15 rfl rfl)
theorem dX4_load_16 : decode cX4_load 16 = .ok (.putfield 166, 3) := dk_181 0 166 (dk_at dksX4_load_0 16 rfl rfl)
theorem dX4_load_19 : decode cX4_load 19 = .ok (.aload_n 0, 1) := dk_42 (dk_at dksX4_load_0 19 rfl rfl)
theorem dX4_load_20 : decode cX4_load 20 = .ok (.iconst 0, 1) := dk_3 (dk_at dksX4_load_0 20 rfl rfl)
theorem dX4_load_21 : decode cX4_load 21 = .ok (.putfield 169, 3) := dk_181 0 169 (dk_at dksX4_load_0 21 rfl rfl)
theorem dX4_load_24 : decode cX4_load 24 = .ok (.aload_n 1, 1) := dk_43 (dk_at dksX4_load_1 0 rfl rfl)
theorem dX4_load_25 : decode cX4_load 25 = .ok (.iload_n 2, 1) := dk_28 (dk_at dksX4_load_1 1 rfl rfl)
theorem dX4_load_26 : decode cX4_load 26 = .ok (.iconst 1, 1) := dk_4 (dk_at dksX4_load_1 2 rfl rfl)
theorem dX4_load_27 : decode cX4_load 27 = .ok (.iadd, 1) := dk_96 (dk_at dksX4_load_1 3 rfl rfl)
theorem dX4_load_28 : decode cX4_load 28 = .ok (.iconst 2, 1) := dk_5 (dk_at dksX4_load_1 4 rfl rfl)
theorem dX4_load_29 : decode cX4_load 29 = .ok (.iload 5, 2) := dk_21 5 (dk_at dksX4_load_1 5 rfl rfl)
theorem dX4_load_31 : decode cX4_load 31 = .ok (.imul, 1) := dk_104 (dk_at dksX4_load_1 7 rfl rfl)
theorem dX4_load_32 : decode cX4_load 32 = .ok (.iadd, 1) := dk_96 (dk_at dksX4_load_1 8 rfl rfl)
theorem dX4_load_33 : decode cX4_load 33 = .ok (.iload_n 3, 1) := dk_29 (dk_at dksX4_load_1 9 rfl rfl)
theorem dX4_load_34 : decode cX4_load 34 = .ok (.ifCond .eq 7, 3) := dk_153 0 7 (dk_at dksX4_load_1 10 rfl rfl)
theorem dX4_load_37 : decode cX4_load 37 = .ok (.iconst 1, 1) := dk_4 (dk_at dksX4_load_1 13 rfl rfl)
theorem dX4_load_38 : decode cX4_load 38 = .ok (.goto 4, 3) := dk_167 0 4 (dk_at dksX4_load_1 14 rfl rfl)
theorem dX4_load_41 : decode cX4_load 41 = .ok (.iconst 0, 1) := dk_3 (dk_at dksX4_load_1 17 rfl rfl)
theorem dX4_load_42 : decode cX4_load 42 = .ok (.iadd, 1) := dk_96 (dk_at dksX4_load_1 18 rfl rfl)
theorem dX4_load_43 : decode cX4_load 43 = .ok (.iaload, 1) := dk_46 (dk_at dksX4_load_1 19 rfl rfl)
theorem dX4_load_44 : decode cX4_load 44 = .ok (.istore 6, 2) := dk_54 6 (dk_at dksX4_load_1 20 rfl rfl)
theorem dX4_load_46 : decode cX4_load 46 = .ok (.aload_n 1, 1) := dk_43 (dk_at dksX4_load_1 22 rfl rfl)
theorem dX4_load_47 : decode cX4_load 47 = .ok (.iload_n 2, 1) := dk_28 (dk_at dksX4_load_1 23 rfl rfl)
theorem dX4_load_48 : decode cX4_load 48 = .ok (.iconst 2, 1) := dk_5 (dk_at dksX4_load_2 0 rfl rfl)
theorem dX4_load_49 : decode cX4_load 49 = .ok (.iadd, 1) := dk_96 (dk_at dksX4_load_2 1 rfl rfl)
theorem dX4_load_50 : decode cX4_load 50 = .ok (.iconst 2, 1) := dk_5 (dk_at dksX4_load_2 2 rfl rfl)
theorem dX4_load_51 : decode cX4_load 51 = .ok (.iload 5, 2) := dk_21 5 (dk_at dksX4_load_2 3 rfl rfl)
theorem dX4_load_53 : decode cX4_load 53 = .ok (.imul, 1) := dk_104 (dk_at dksX4_load_2 5 rfl rfl)
theorem dX4_load_54 : decode cX4_load 54 = .ok (.iadd, 1) := dk_96 (dk_at dksX4_load_2 6 rfl rfl)
theorem dX4_load_55 : decode cX4_load 55 = .ok (.iload_n 3, 1) := dk_29 (dk_at dksX4_load_2 7 rfl rfl)
theorem dX4_load_56 : decode cX4_load 56 = .ok (.ifCond .eq 7, 3) := dk_153 0 7 (dk_at dksX4_load_2 8 rfl rfl)
theorem dX4_load_59 : decode cX4_load 59 = .ok (.iconst 1, 1) := dk_4 (dk_at dksX4_load_2 11 rfl rfl)
theorem dX4_load_60 : decode cX4_load 60 = .ok (.goto 4, 3) := dk_167 0 4 (dk_at dksX4_load_2 12 rfl rfl)
theorem dX4_load_63 : decode cX4_load 63 = .ok (.iconst 0, 1) := dk_3 (dk_at dksX4_load_2 15 rfl rfl)
theorem dX4_load_64 : decode cX4_load 64 = .ok (.isub, 1) := dk_100 (dk_at dksX4_load_2 16 rfl rfl)
theorem dX4_load_65 : decode cX4_load 65 = .ok (.iaload, 1) := dk_46 (dk_at dksX4_load_2 17 rfl rfl)
theorem dX4_load_66 : decode cX4_load 66 = .ok (.istore 7, 2) := dk_54 7 (dk_at dksX4_load_2 18 rfl rfl)
theorem dX4_load_68 : decode cX4_load 68 = .ok (.iconst 0, 1) := dk_3 (dk_at dksX4_load_2 20 rfl rfl)
theorem dX4_load_69 : decode cX4_load 69 = .ok (.istore 8, 2) := dk_54 8 (dk_at dksX4_load_2 21 rfl rfl)
theorem dX4_load_71 : decode cX4_load 71 = .ok (.iload 8, 2) := dk_21 8 (dk_at dksX4_load_3 0 rfl rfl)
theorem dX4_load_73 : decode cX4_load 73 = .ok (.iload 5, 2) := dk_21 5 (dk_at dksX4_load_3 2 rfl rfl)
theorem dX4_load_75 : decode cX4_load 75 = .ok (.if_icmp .ge 83, 3) := dk_162 0 83 (dk_at dksX4_load_3 4 rfl rfl)
theorem dX4_load_78 : decode cX4_load 78 = .ok (.iload 6, 2) := dk_21 6 (dk_at dksX4_load_3 7 rfl rfl)
theorem dX4_load_80 : decode cX4_load 80 = .ok (.iload 8, 2) := dk_21 8 (dk_at dksX4_load_3 9 rfl rfl)
theorem dX4_load_82 : decode cX4_load 82 = .ok (.ishr, 1) := dk_122 (dk_at dksX4_load_3 11 rfl rfl)
theorem dX4_load_83 : decode cX4_load 83 = .ok (.iconst 1, 1) := dk_4 (dk_at dksX4_load_3 12 rfl rfl)
theorem dX4_load_84 : decode cX4_load 84 = .ok (.iand, 1) := dk_126 (dk_at dksX4_load_3 13 rfl rfl)
theorem dX4_load_85 : decode cX4_load 85 = .ok (.iconst 1, 1) := dk_4 (dk_at dksX4_load_3 14 rfl rfl)
theorem dX4_load_86 : decode cX4_load 86 = .ok (.if_icmp .ne 29, 3) := dk_160 0 29 (dk_at dksX4_load_3 15 rfl rfl)
theorem dX4_load_89 : decode cX4_load 89 = .ok (.aload_n 0, 1) := dk_42 (dk_at dksX4_load_3 18 rfl rfl)
theorem dX4_load_90 : decode cX4_load 90 = .ok (.getfield 52, 3) := dk_180 0 52 (dk_at dksX4_load_3 19 rfl rfl)
theorem dX4_load_93 : decode cX4_load 93 = .ok (.aload_n 0, 1) := dk_42 (dk_at dksX4_load_3 22 rfl rfl)
theorem dX4_load_94 : decode cX4_load 94 = .ok (.getfield 166, 3) := dk_180 0 166 (dk_at dksX4_load_4 0 rfl rfl)
theorem dX4_load_97 : decode cX4_load 97 = .ok (.aload_n 0, 1) := dk_42 (dk_at dksX4_load_4 3 rfl rfl)
theorem dX4_load_98 : decode cX4_load 98 = .ok (.getfield 70, 3) := dk_180 0 70 (dk_at dksX4_load_4 4 rfl rfl)
theorem dX4_load_101 : decode cX4_load 101 = .ok (.iload 8, 2) := dk_21 8 (dk_at dksX4_load_4 7 rfl rfl)
theorem dX4_load_103 : decode cX4_load 103 = .ok (.iaload, 1) := dk_46 (dk_at dksX4_load_4 9 rfl rfl)
theorem dX4_load_104 : decode cX4_load 104 = .ok (.iastore, 1) := dk_79 (dk_at dksX4_load_4 10 rfl rfl)
theorem dX4_load_105 : decode cX4_load 105 = .ok (.aload_n 0, 1) := dk_42 (dk_at dksX4_load_4 11 rfl rfl)
theorem dX4_load_106 : decode cX4_load 106 = .ok (.dup, 1) := dk_89 (dk_at dksX4_load_4 12 rfl rfl)
theorem dX4_load_107 : decode cX4_load 107 = .ok (.getfield 166, 3) := dk_180 0 166 (dk_at dksX4_load_4 13 rfl rfl)
theorem dX4_load_110 : decode cX4_load 110 = .ok (.iconst 1, 1) := dk_4 (dk_at dksX4_load_4 16 rfl rfl)
theorem dX4_load_111 : decode cX4_load 111 = .ok (.iadd, 1) := dk_96 (dk_at dksX4_load_4 17 rfl rfl)
theorem dX4_load_112 : decode cX4_load 112 = .ok (.putfield 166, 3) := dk_181 0 166 (dk_at dksX4_load_4 18 rfl rfl)
theorem dX4_load_115 : decode cX4_load 115 = .ok (.iload 7, 2) := dk_21 7 (dk_at dksX4_load_4 21 rfl rfl)
theorem dX4_load_117 : decode cX4_load 117 = .ok (.iload 8, 2) := dk_21 8 (dk_at dksX4_load_5 0 rfl rfl)
theorem dX4_load_119 : decode cX4_load 119 = .ok (.ishr, 1) := dk_122 (dk_at dksX4_load_5 2 rfl rfl)
theorem dX4_load_120 : decode cX4_load 120 = .ok (.iconst 1, 1) := dk_4 (dk_at dksX4_load_5 3 rfl rfl)
theorem dX4_load_121 : decode cX4_load 121 = .ok (.iand, 1) := dk_126 (dk_at dksX4_load_5 4 rfl rfl)
theorem dX4_load_122 : decode cX4_load 122 = .ok (.iconst 1, 1) := dk_4 (dk_at dksX4_load_5 5 rfl rfl)
theorem dX4_load_123 : decode cX4_load 123 = .ok (.if_icmp .ne 29, 3) := dk_160 0 29 (dk_at dksX4_load_5 6 rfl rfl)
theorem dX4_load_126 : decode cX4_load 126 = .ok (.aload_n 0, 1) := dk_42 (dk_at dksX4_load_5 9 rfl rfl)
theorem dX4_load_127 : decode cX4_load 127 = .ok (.getfield 55, 3) := dk_180 0 55 (dk_at dksX4_load_5 10 rfl rfl)
theorem dX4_load_130 : decode cX4_load 130 = .ok (.aload_n 0, 1) := dk_42 (dk_at dksX4_load_5 13 rfl rfl)
theorem dX4_load_131 : decode cX4_load 131 = .ok (.getfield 169, 3) := dk_180 0 169 (dk_at dksX4_load_5 14 rfl rfl)
theorem dX4_load_134 : decode cX4_load 134 = .ok (.aload_n 0, 1) := dk_42 (dk_at dksX4_load_5 17 rfl rfl)
theorem dX4_load_135 : decode cX4_load 135 = .ok (.getfield 70, 3) := dk_180 0 70 (dk_at dksX4_load_5 18 rfl rfl)
theorem dX4_load_138 : decode cX4_load 138 = .ok (.iload 8, 2) := dk_21 8 (dk_at dksX4_load_5 21 rfl rfl)
theorem dX4_load_140 : decode cX4_load 140 = .ok (.iaload, 1) := dk_46 (dk_at dksX4_load_5 23 rfl rfl)
theorem dX4_load_141 : decode cX4_load 141 = .ok (.iastore, 1) := dk_79 (dk_at dksX4_load_6 0 rfl rfl)
theorem dX4_load_142 : decode cX4_load 142 = .ok (.aload_n 0, 1) := dk_42 (dk_at dksX4_load_6 1 rfl rfl)
theorem dX4_load_143 : decode cX4_load 143 = .ok (.dup, 1) := dk_89 (dk_at dksX4_load_6 2 rfl rfl)
theorem dX4_load_144 : decode cX4_load 144 = .ok (.getfield 169, 3) := dk_180 0 169 (dk_at dksX4_load_6 3 rfl rfl)
theorem dX4_load_147 : decode cX4_load 147 = .ok (.iconst 1, 1) := dk_4 (dk_at dksX4_load_6 6 rfl rfl)
theorem dX4_load_148 : decode cX4_load 148 = .ok (.iadd, 1) := dk_96 (dk_at dksX4_load_6 7 rfl rfl)
theorem dX4_load_149 : decode cX4_load 149 = .ok (.putfield 169, 3) := dk_181 0 169 (dk_at dksX4_load_6 8 rfl rfl)
theorem dX4_load_152 : decode cX4_load 152 = .ok (.iinc 8 1, 3) := dk_132 8 1 (dk_at dksX4_load_6 11 rfl rfl)
theorem dX4_load_155 : decode cX4_load 155 = .ok (.goto (-84), 3) := dk_167 255 172 (dk_at dksX4_load_6 14 rfl rfl)
theorem dX4_load_158 : decode cX4_load 158 = .ok (.aload_n 0, 1) := dk_42 (dk_at dksX4_load_6 17 rfl rfl)
theorem dX4_load_159 : decode cX4_load 159 = .ok (.invokevirtual 211, 3) := dk_182 0 211 (dk_at dksX4_load_6 18 rfl rfl)
theorem dX4_load_162 : decode cX4_load 162 = .ok (.istore 4, 2) := dk_54 4 (dk_at dksX4_load_6 21 rfl rfl)
theorem dX4_load_164 : decode cX4_load 164 = .ok (.aload_n 0, 1) := dk_42 (dk_at dksX4_load_6 23 rfl rfl)
theorem dX4_load_165 : decode cX4_load 165 = .ok (.getfield 70, 3) := dk_180 0 70 (dk_at dksX4_load_7 0 rfl rfl)
theorem dX4_load_168 : decode cX4_load 168 = .ok (.iload 5, 2) := dk_21 5 (dk_at dksX4_load_7 3 rfl rfl)
theorem dX4_load_170 : decode cX4_load 170 = .ok (.iload 4, 2) := dk_21 4 (dk_at dksX4_load_7 5 rfl rfl)
theorem dX4_load_172 : decode cX4_load 172 = .ok (.iastore, 1) := dk_79 (dk_at dksX4_load_7 7 rfl rfl)
theorem dX4_load_173 : decode cX4_load 173 = .ok (.iinc 5 1, 3) := dk_132 5 1 (dk_at dksX4_load_7 8 rfl rfl)
theorem dX4_load_176 : decode cX4_load 176 = .ok (.goto (-170), 3) := dk_167 255 86 (dk_at dksX4_load_7 11 rfl rfl)
theorem dX4_load_179 : decode cX4_load 179 = .ok (.iload 4, 2) := dk_21 4 (dk_at dksX4_load_7 14 rfl rfl)
theorem dX4_load_181 : decode cX4_load 181 = .ok (.ireturn, 1) := dk_172 (dk_at dksX4_load_7 16 rfl rfl)
abbrev cX4_isBeaten : ByteArray := prog_18_method_54_code
def yX4_isBeaten : MethodName := ⟨RX4, "isBeaten", "(IZ)Z"⟩
def dkwX4_isBeaten_4 : List UInt8 := [29, 172]
abbrev dktX4_isBeaten_4 : List UInt8 := dkwX4_isBeaten_4 ++ []
def dkwX4_isBeaten_3 : List UInt8 := [42, 180, 0, 55, 27, 46, 182, 0, 188, 153, 0, 7, 4, 167, 0, 4, 3, 62, 132, 4, 1, 167, 255, 170]
abbrev dktX4_isBeaten_3 : List UInt8 := dkwX4_isBeaten_3 ++ dktX4_isBeaten_4
def dkwX4_isBeaten_2 : List UInt8 := [42, 180, 0, 52, 21, 4, 46, 182, 0, 188, 153, 0, 30, 167, 0, 23, 42, 42, 180, 0, 55, 21, 4, 46]
abbrev dktX4_isBeaten_2 : List UInt8 := dkwX4_isBeaten_2 ++ dktX4_isBeaten_3
def dkwX4_isBeaten_1 : List UInt8 := [162, 0, 72, 29, 154, 0, 56, 21, 4, 27, 159, 0, 54, 28, 153, 0, 26, 42, 42, 180, 0, 52, 27, 46]
abbrev dktX4_isBeaten_1 : List UInt8 := dkwX4_isBeaten_1 ++ dktX4_isBeaten_2
def dkwX4_isBeaten_0 : List UInt8 := [3, 62, 3, 54, 4, 21, 4, 28, 153, 0, 10, 42, 180, 0, 166, 167, 0, 7, 42, 180, 0, 169]
abbrev dktX4_isBeaten_0 : List UInt8 := dkwX4_isBeaten_0 ++ dktX4_isBeaten_1
theorem dksX4_isBeaten_0 : cX4_isBeaten.data.toList.drop 0 = dktX4_isBeaten_0 := by decide +kernel
theorem dksX4_isBeaten_1 : cX4_isBeaten.data.toList.drop 22 = dktX4_isBeaten_1 := dk_seg dksX4_isBeaten_0 22 rfl rfl
theorem dksX4_isBeaten_2 : cX4_isBeaten.data.toList.drop 46 = dktX4_isBeaten_2 := dk_seg dksX4_isBeaten_1 24 rfl rfl
theorem dksX4_isBeaten_3 : cX4_isBeaten.data.toList.drop 70 = dktX4_isBeaten_3 := dk_seg dksX4_isBeaten_2 24 rfl rfl
theorem dksX4_isBeaten_4 : cX4_isBeaten.data.toList.drop 94 = dktX4_isBeaten_4 := dk_seg dksX4_isBeaten_3 24 rfl rfl
theorem dX4_isBeaten_0 : decode cX4_isBeaten 0 = .ok (.iconst 0, 1) := dk_3 (dk_at dksX4_isBeaten_0 0 rfl rfl)
theorem dX4_isBeaten_1 : decode cX4_isBeaten 1 = .ok (.istore_n 3, 1) := dk_62 (dk_at dksX4_isBeaten_0 1 rfl rfl)
theorem dX4_isBeaten_2 : decode cX4_isBeaten 2 = .ok (.iconst 0, 1) := dk_3 (dk_at dksX4_isBeaten_0 2 rfl rfl)
theorem dX4_isBeaten_3 : decode cX4_isBeaten 3 = .ok (.istore 4, 2) := dk_54 4 (dk_at dksX4_isBeaten_0 3 rfl rfl)
theorem dX4_isBeaten_5 : decode cX4_isBeaten 5 = .ok (.iload 4, 2) := dk_21 4 (dk_at dksX4_isBeaten_0 5 rfl rfl)
theorem dX4_isBeaten_7 : decode cX4_isBeaten 7 = .ok (.iload_n 2, 1) := dk_28 (dk_at dksX4_isBeaten_0 7 rfl rfl)
theorem dX4_isBeaten_8 : decode cX4_isBeaten 8 = .ok (.ifCond .eq 10, 3) := dk_153 0 10 (dk_at dksX4_isBeaten_0 8 rfl rfl)
theorem dX4_isBeaten_11 : decode cX4_isBeaten 11 = .ok (.aload_n 0, 1) := dk_42 (dk_at dksX4_isBeaten_0 11 rfl rfl)
theorem dX4_isBeaten_12 : decode cX4_isBeaten 12 = .ok (.getfield 166, 3) := dk_180 0 166 (dk_at dksX4_isBeaten_0 12 rfl rfl)
theorem dX4_isBeaten_15 : decode cX4_isBeaten 15 = .ok (.goto 7, 3) := dk_167 0 7 (dk_at dksX4_isBeaten_0 15 rfl rfl)
theorem dX4_isBeaten_18 : decode cX4_isBeaten 18 = .ok (.aload_n 0, 1) := dk_42 (dk_at dksX4_isBeaten_0 18 rfl rfl)
theorem dX4_isBeaten_19 : decode cX4_isBeaten 19 = .ok (.getfield 169, 3) := dk_180 0 169 (dk_at dksX4_isBeaten_0 19 rfl rfl)
theorem dX4_isBeaten_22 : decode cX4_isBeaten 22 = .ok (.if_icmp .ge 72, 3) := dk_162 0 72 (dk_at dksX4_isBeaten_1 0 rfl rfl)
theorem dX4_isBeaten_25 : decode cX4_isBeaten 25 = .ok (.iload_n 3, 1) := dk_29 (dk_at dksX4_isBeaten_1 3 rfl rfl)
theorem dX4_isBeaten_26 : decode cX4_isBeaten 26 = .ok (.ifCond .ne 56, 3) := dk_154 0 56 (dk_at dksX4_isBeaten_1 4 rfl rfl)
theorem dX4_isBeaten_29 : decode cX4_isBeaten 29 = .ok (.iload 4, 2) := dk_21 4 (dk_at dksX4_isBeaten_1 7 rfl rfl)
theorem dX4_isBeaten_31 : decode cX4_isBeaten 31 = .ok (.iload_n 1, 1) := dk_27 (dk_at dksX4_isBeaten_1 9 rfl rfl)
theorem dX4_isBeaten_32 : decode cX4_isBeaten 32 = .ok (.if_icmp .eq 54, 3) := dk_159 0 54 (dk_at dksX4_isBeaten_1 10 rfl rfl)
theorem dX4_isBeaten_35 : decode cX4_isBeaten 35 = .ok (.iload_n 2, 1) := dk_28 (dk_at dksX4_isBeaten_1 13 rfl rfl)
theorem dX4_isBeaten_36 : decode cX4_isBeaten 36 = .ok (.ifCond .eq 26, 3) := dk_153 0 26 (dk_at dksX4_isBeaten_1 14 rfl rfl)
theorem dX4_isBeaten_39 : decode cX4_isBeaten 39 = .ok (.aload_n 0, 1) := dk_42 (dk_at dksX4_isBeaten_1 17 rfl rfl)
theorem dX4_isBeaten_40 : decode cX4_isBeaten 40 = .ok (.aload_n 0, 1) := dk_42 (dk_at dksX4_isBeaten_1 18 rfl rfl)
theorem dX4_isBeaten_41 : decode cX4_isBeaten 41 = .ok (.getfield 52, 3) := dk_180 0 52 (dk_at dksX4_isBeaten_1 19 rfl rfl)
theorem dX4_isBeaten_44 : decode cX4_isBeaten 44 = .ok (.iload_n 1, 1) := dk_27 (dk_at dksX4_isBeaten_1 22 rfl rfl)
theorem dX4_isBeaten_45 : decode cX4_isBeaten 45 = .ok (.iaload, 1) := dk_46 (dk_at dksX4_isBeaten_1 23 rfl rfl)
theorem dX4_isBeaten_46 : decode cX4_isBeaten 46 = .ok (.aload_n 0, 1) := dk_42 (dk_at dksX4_isBeaten_2 0 rfl rfl)
theorem dX4_isBeaten_47 : decode cX4_isBeaten 47 = .ok (.getfield 52, 3) := dk_180 0 52 (dk_at dksX4_isBeaten_2 1 rfl rfl)
theorem dX4_isBeaten_50 : decode cX4_isBeaten 50 = .ok (.iload 4, 2) := dk_21 4 (dk_at dksX4_isBeaten_2 4 rfl rfl)
theorem dX4_isBeaten_52 : decode cX4_isBeaten 52 = .ok (.iaload, 1) := dk_46 (dk_at dksX4_isBeaten_2 6 rfl rfl)
theorem dX4_isBeaten_53 : decode cX4_isBeaten 53 = .ok (.invokevirtual 188, 3) := dk_182 0 188 (dk_at dksX4_isBeaten_2 7 rfl rfl)
theorem dX4_isBeaten_56 : decode cX4_isBeaten 56 = .ok (.ifCond .eq 30, 3) := dk_153 0 30 (dk_at dksX4_isBeaten_2 10 rfl rfl)
theorem dX4_isBeaten_59 : decode cX4_isBeaten 59 = .ok (.goto 23, 3) := dk_167 0 23 (dk_at dksX4_isBeaten_2 13 rfl rfl)
theorem dX4_isBeaten_62 : decode cX4_isBeaten 62 = .ok (.aload_n 0, 1) := dk_42 (dk_at dksX4_isBeaten_2 16 rfl rfl)
theorem dX4_isBeaten_63 : decode cX4_isBeaten 63 = .ok (.aload_n 0, 1) := dk_42 (dk_at dksX4_isBeaten_2 17 rfl rfl)
theorem dX4_isBeaten_64 : decode cX4_isBeaten 64 = .ok (.getfield 55, 3) := dk_180 0 55 (dk_at dksX4_isBeaten_2 18 rfl rfl)
theorem dX4_isBeaten_67 : decode cX4_isBeaten 67 = .ok (.iload 4, 2) := dk_21 4 (dk_at dksX4_isBeaten_2 21 rfl rfl)
theorem dX4_isBeaten_69 : decode cX4_isBeaten 69 = .ok (.iaload, 1) := dk_46 (dk_at dksX4_isBeaten_2 23 rfl rfl)
theorem dX4_isBeaten_70 : decode cX4_isBeaten 70 = .ok (.aload_n 0, 1) := dk_42 (dk_at dksX4_isBeaten_3 0 rfl rfl)
theorem dX4_isBeaten_71 : decode cX4_isBeaten 71 = .ok (.getfield 55, 3) := dk_180 0 55 (dk_at dksX4_isBeaten_3 1 rfl rfl)
theorem dX4_isBeaten_74 : decode cX4_isBeaten 74 = .ok (.iload_n 1, 1) := dk_27 (dk_at dksX4_isBeaten_3 4 rfl rfl)
theorem dX4_isBeaten_75 : decode cX4_isBeaten 75 = .ok (.iaload, 1) := dk_46 (dk_at dksX4_isBeaten_3 5 rfl rfl)
theorem dX4_isBeaten_76 : decode cX4_isBeaten 76 = .ok (.invokevirtual 188, 3) := dk_182 0 188 (dk_at dksX4_isBeaten_3 6 rfl rfl)
theorem dX4_isBeaten_79 : decode cX4_isBeaten 79 = .ok (.ifCond .eq 7, 3) := dk_153 0 7 (dk_at dksX4_isBeaten_3 9 rfl rfl)
theorem dX4_isBeaten_82 : decode cX4_isBeaten 82 = .ok (.iconst 1, 1) := dk_4 (dk_at dksX4_isBeaten_3 12 rfl rfl)
theorem dX4_isBeaten_83 : decode cX4_isBeaten 83 = .ok (.goto 4, 3) := dk_167 0 4 (dk_at dksX4_isBeaten_3 13 rfl rfl)
theorem dX4_isBeaten_86 : decode cX4_isBeaten 86 = .ok (.iconst 0, 1) := dk_3 (dk_at dksX4_isBeaten_3 16 rfl rfl)
theorem dX4_isBeaten_87 : decode cX4_isBeaten 87 = .ok (.istore_n 3, 1) := dk_62 (dk_at dksX4_isBeaten_3 17 rfl rfl)
theorem dX4_isBeaten_88 : decode cX4_isBeaten 88 = .ok (.iinc 4 1, 3) := dk_132 4 1 (dk_at dksX4_isBeaten_3 18 rfl rfl)
theorem dX4_isBeaten_91 : decode cX4_isBeaten 91 = .ok (.goto (-86), 3) := dk_167 255 170 (dk_at dksX4_isBeaten_3 21 rfl rfl)
theorem dX4_isBeaten_94 : decode cX4_isBeaten 94 = .ok (.iload_n 3, 1) := dk_29 (dk_at dksX4_isBeaten_4 0 rfl rfl)
theorem dX4_isBeaten_95 : decode cX4_isBeaten 95 = .ok (.ireturn, 1) := dk_172 (dk_at dksX4_isBeaten_4 1 rfl rfl)
abbrev cX4_makeGame : ByteArray := prog_18_method_56_code
def yX4_makeGame : MethodName := ⟨RX4, "makeGame", "(I)I"⟩
def dkwX4_makeGame_2 : List UInt8 := [79, 42, 180, 0, 19, 4, 3, 79, 42, 180, 0, 82, 3, 46, 172]
abbrev dktX4_makeGame_2 : List UInt8 := dkwX4_makeGame_2 ++ []
def dkwX4_makeGame_1 : List UInt8 := [182, 1, 11, 182, 1, 14, 154, 0, 7, 19, 1, 42, 172, 42, 27, 182, 1, 43, 42, 180, 0, 19, 3, 3]
abbrev dktX4_makeGame_1 : List UInt8 := dkwX4_makeGame_1 ++ dktX4_makeGame_2
def dkwX4_makeGame_0 : List UInt8 := [42, 3, 181, 0, 146, 27, 184, 1, 34, 154, 0, 7, 19, 1, 37, 172, 42, 182, 1, 54, 42, 42]
abbrev dktX4_makeGame_0 : List UInt8 := dkwX4_makeGame_0 ++ dktX4_makeGame_1
theorem dksX4_makeGame_0 : cX4_makeGame.data.toList.drop 0 = dktX4_makeGame_0 := by decide +kernel
theorem dksX4_makeGame_1 : cX4_makeGame.data.toList.drop 22 = dktX4_makeGame_1 := dk_seg dksX4_makeGame_0 22 rfl rfl
theorem dksX4_makeGame_2 : cX4_makeGame.data.toList.drop 46 = dktX4_makeGame_2 := dk_seg dksX4_makeGame_1 24 rfl rfl
theorem dX4_makeGame_0 : decode cX4_makeGame 0 = .ok (.aload_n 0, 1) := dk_42 (dk_at dksX4_makeGame_0 0 rfl rfl)
theorem dX4_makeGame_1 : decode cX4_makeGame 1 = .ok (.iconst 0, 1) := dk_3 (dk_at dksX4_makeGame_0 1 rfl rfl)
theorem dX4_makeGame_2 : decode cX4_makeGame 2 = .ok (.putfield 146, 3) := dk_181 0 146 (dk_at dksX4_makeGame_0 2 rfl rfl)
theorem dX4_makeGame_5 : decode cX4_makeGame 5 = .ok (.iload_n 1, 1) := dk_27 (dk_at dksX4_makeGame_0 5 rfl rfl)
theorem dX4_makeGame_6 : decode cX4_makeGame 6 = .ok (.invokestatic 290, 3) := dk_184 1 34 (dk_at dksX4_makeGame_0 6 rfl rfl)
theorem dX4_makeGame_9 : decode cX4_makeGame 9 = .ok (.ifCond .ne 7, 3) := dk_154 0 7 (dk_at dksX4_makeGame_0 9 rfl rfl)
theorem dX4_makeGame_12 : decode cX4_makeGame 12 = .ok (.ldc_w 293, 3) := dk_19 1 37 (dk_at dksX4_makeGame_0 12 rfl rfl)
theorem dX4_makeGame_15 : decode cX4_makeGame 15 = .ok (.ireturn, 1) := dk_172 (dk_at dksX4_makeGame_0 15 rfl rfl)
theorem dX4_makeGame_16 : decode cX4_makeGame 16 = .ok (.aload_n 0, 1) := dk_42 (dk_at dksX4_makeGame_0 16 rfl rfl)
theorem dX4_makeGame_17 : decode cX4_makeGame 17 = .ok (.invokevirtual 310, 3) := dk_182 1 54 (dk_at dksX4_makeGame_0 17 rfl rfl)
theorem dX4_makeGame_20 : decode cX4_makeGame 20 = .ok (.aload_n 0, 1) := dk_42 (dk_at dksX4_makeGame_0 20 rfl rfl)
theorem dX4_makeGame_21 : decode cX4_makeGame 21 = .ok (.aload_n 0, 1) := dk_42 (dk_at dksX4_makeGame_0 21 rfl rfl)
theorem dX4_makeGame_22 : decode cX4_makeGame 22 = .ok (.invokevirtual 267, 3) := dk_182 1 11 (dk_at dksX4_makeGame_1 0 rfl rfl)
theorem dX4_makeGame_25 : decode cX4_makeGame 25 = .ok (.invokevirtual 270, 3) := dk_182 1 14 (dk_at dksX4_makeGame_1 3 rfl rfl)
theorem dX4_makeGame_28 : decode cX4_makeGame 28 = .ok (.ifCond .ne 7, 3) := dk_154 0 7 (dk_at dksX4_makeGame_1 6 rfl rfl)
theorem dX4_makeGame_31 : decode cX4_makeGame 31 = .ok (.ldc_w 298, 3) := dk_19 1 42 (dk_at dksX4_makeGame_1 9 rfl rfl)
theorem dX4_makeGame_34 : decode cX4_makeGame 34 = .ok (.ireturn, 1) := dk_172 (dk_at dksX4_makeGame_1 12 rfl rfl)
theorem dX4_makeGame_35 : decode cX4_makeGame 35 = .ok (.aload_n 0, 1) := dk_42 (dk_at dksX4_makeGame_1 13 rfl rfl)
theorem dX4_makeGame_36 : decode cX4_makeGame 36 = .ok (.iload_n 1, 1) := dk_27 (dk_at dksX4_makeGame_1 14 rfl rfl)
theorem dX4_makeGame_37 : decode cX4_makeGame 37 = .ok (.invokevirtual 299, 3) := dk_182 1 43 (dk_at dksX4_makeGame_1 15 rfl rfl)
theorem dX4_makeGame_40 : decode cX4_makeGame 40 = .ok (.aload_n 0, 1) := dk_42 (dk_at dksX4_makeGame_1 18 rfl rfl)
theorem dX4_makeGame_41 : decode cX4_makeGame 41 = .ok (.getfield 19, 3) := dk_180 0 19 (dk_at dksX4_makeGame_1 19 rfl rfl)
theorem dX4_makeGame_44 : decode cX4_makeGame 44 = .ok (.iconst 0, 1) := dk_3 (dk_at dksX4_makeGame_1 22 rfl rfl)
theorem dX4_makeGame_45 : decode cX4_makeGame 45 = .ok (.iconst 0, 1) := dk_3 (dk_at dksX4_makeGame_1 23 rfl rfl)
theorem dX4_makeGame_46 : decode cX4_makeGame 46 = .ok (.iastore, 1) := dk_79 (dk_at dksX4_makeGame_2 0 rfl rfl)
theorem dX4_makeGame_47 : decode cX4_makeGame 47 = .ok (.aload_n 0, 1) := dk_42 (dk_at dksX4_makeGame_2 1 rfl rfl)
theorem dX4_makeGame_48 : decode cX4_makeGame 48 = .ok (.getfield 19, 3) := dk_180 0 19 (dk_at dksX4_makeGame_2 2 rfl rfl)
theorem dX4_makeGame_51 : decode cX4_makeGame 51 = .ok (.iconst 1, 1) := dk_4 (dk_at dksX4_makeGame_2 5 rfl rfl)
theorem dX4_makeGame_52 : decode cX4_makeGame 52 = .ok (.iconst 0, 1) := dk_3 (dk_at dksX4_makeGame_2 6 rfl rfl)
theorem dX4_makeGame_53 : decode cX4_makeGame 53 = .ok (.iastore, 1) := dk_79 (dk_at dksX4_makeGame_2 7 rfl rfl)
theorem dX4_makeGame_54 : decode cX4_makeGame 54 = .ok (.aload_n 0, 1) := dk_42 (dk_at dksX4_makeGame_2 8 rfl rfl)
theorem dX4_makeGame_55 : decode cX4_makeGame 55 = .ok (.getfield 82, 3) := dk_180 0 82 (dk_at dksX4_makeGame_2 9 rfl rfl)
theorem dX4_makeGame_58 : decode cX4_makeGame 58 = .ok (.iconst 0, 1) := dk_3 (dk_at dksX4_makeGame_2 12 rfl rfl)
theorem dX4_makeGame_59 : decode cX4_makeGame 59 = .ok (.iaload, 1) := dk_46 (dk_at dksX4_makeGame_2 13 rfl rfl)
theorem dX4_makeGame_60 : decode cX4_makeGame 60 = .ok (.ireturn, 1) := dk_172 (dk_at dksX4_makeGame_2 14 rfl rfl)
abbrev cX4_takeOption : ByteArray := prog_18_method_60_code
def yX4_takeOption : MethodName := ⟨RX4, "takeOption", "(IIII)I"⟩
def dkwX4_takeOption_4 : List UInt8 := [21, 4, 182, 1, 43, 42, 180, 0, 82, 3, 46, 172]
abbrev dktX4_takeOption_4 : List UInt8 := dkwX4_takeOption_4 ++ []
def dkwX4_takeOption_3 : List UInt8 := [16, 65, 27, 104, 3, 182, 1, 17, 87, 42, 42, 180, 0, 70, 21, 5, 46, 182, 1, 14, 54, 6, 42]
abbrev dktX4_takeOption_3 : List UInt8 := dkwX4_takeOption_3 ++ dktX4_takeOption_4
def dkwX4_takeOption_2 : List UInt8 := [184, 1, 63, 54, 5, 21, 5, 18, 195, 160, 0, 6, 18, 195, 172, 42, 182, 1, 4, 42, 42, 180, 0, 9]
abbrev dktX4_takeOption_2 : List UInt8 := dkwX4_takeOption_2 ++ dktX4_takeOption_3
def dkwX4_takeOption_1 : List UInt8 := [155, 0, 11, 21, 4, 184, 1, 34, 154, 0, 7, 19, 1, 37, 172, 42, 27, 28, 182, 1, 60, 29]
abbrev dktX4_takeOption_1 : List UInt8 := dkwX4_takeOption_1 ++ dktX4_takeOption_2
def dkwX4_takeOption_0 : List UInt8 := [42, 3, 181, 0, 146, 27, 184, 1, 34, 153, 0, 24, 28, 3, 4, 184, 0, 153, 153, 0, 15, 29]
abbrev dktX4_takeOption_0 : List UInt8 := dkwX4_takeOption_0 ++ dktX4_takeOption_1
theorem dksX4_takeOption_0 : cX4_takeOption.data.toList.drop 0 = dktX4_takeOption_0 := by decide +kernel
theorem dksX4_takeOption_1 : cX4_takeOption.data.toList.drop 22 = dktX4_takeOption_1 := dk_seg dksX4_takeOption_0 22 rfl rfl
theorem dksX4_takeOption_2 : cX4_takeOption.data.toList.drop 44 = dktX4_takeOption_2 := dk_seg dksX4_takeOption_1 22 rfl rfl
theorem dksX4_takeOption_3 : cX4_takeOption.data.toList.drop 68 = dktX4_takeOption_3 := dk_seg dksX4_takeOption_2 24 rfl rfl
theorem dksX4_takeOption_4 : cX4_takeOption.data.toList.drop 91 = dktX4_takeOption_4 := dk_seg dksX4_takeOption_3 23 rfl rfl
theorem dX4_takeOption_0 : decode cX4_takeOption 0 = .ok (.aload_n 0, 1) := dk_42 (dk_at dksX4_takeOption_0 0 rfl rfl)
theorem dX4_takeOption_1 : decode cX4_takeOption 1 = .ok (.iconst 0, 1) := dk_3 (dk_at dksX4_takeOption_0 1 rfl rfl)
theorem dX4_takeOption_2 : decode cX4_takeOption 2 = .ok (.putfield 146, 3) := dk_181 0 146 (dk_at dksX4_takeOption_0 2 rfl rfl)
theorem dX4_takeOption_5 : decode cX4_takeOption 5 = .ok (.iload_n 1, 1) := dk_27 (dk_at dksX4_takeOption_0 5 rfl rfl)
theorem dX4_takeOption_6 : decode cX4_takeOption 6 = .ok (.invokestatic 290, 3) := dk_184 1 34 (dk_at dksX4_takeOption_0 6 rfl rfl)
theorem dX4_takeOption_9 : decode cX4_takeOption 9 = .ok (.ifCond .eq 24, 3) := dk_153 0 24 (dk_at dksX4_takeOption_0 9 rfl rfl)
theorem dX4_takeOption_12 : decode cX4_takeOption 12 = .ok (.iload_n 2, 1) := dk_28 (dk_at dksX4_takeOption_0 12 rfl rfl)
theorem dX4_takeOption_13 : decode cX4_takeOption 13 = .ok (.iconst 0, 1) := dk_3 (dk_at dksX4_takeOption_0 13 rfl rfl)
theorem dX4_takeOption_14 : decode cX4_takeOption 14 = .ok (.iconst 1, 1) := dk_4 (dk_at dksX4_takeOption_0 14 rfl rfl)
theorem dX4_takeOption_15 : decode cX4_takeOption 15 = .ok (.invokestatic 153, 3) := dk_184 0 153 (dk_at dksX4_takeOption_0 15 rfl rfl)
theorem dX4_takeOption_18 : decode cX4_takeOption 18 = .ok (.ifCond .eq 15, 3) := dk_153 0 15 (dk_at dksX4_takeOption_0 18 rfl rfl)
theorem dX4_takeOption_21 : decode cX4_takeOption 21 = .ok (.iload_n 3, 1) := dk_29 (dk_at dksX4_takeOption_0 21 rfl rfl)
theorem dX4_takeOption_22 : decode cX4_takeOption 22 = .ok (.ifCond .lt 11, 3) := dk_155 0 11 (dk_at dksX4_takeOption_1 0 rfl rfl)
theorem dX4_takeOption_25 : decode cX4_takeOption 25 = .ok (.iload 4, 2) := dk_21 4 (dk_at dksX4_takeOption_1 3 rfl rfl)
theorem dX4_takeOption_27 : decode cX4_takeOption 27 = .ok (.invokestatic 290, 3) := dk_184 1 34 (dk_at dksX4_takeOption_1 5 rfl rfl)
theorem dX4_takeOption_30 : decode cX4_takeOption 30 = .ok (.ifCond .ne 7, 3) := dk_154 0 7 (dk_at dksX4_takeOption_1 8 rfl rfl)
theorem dX4_takeOption_33 : decode cX4_takeOption 33 = .ok (.ldc_w 293, 3) := dk_19 1 37 (dk_at dksX4_takeOption_1 11 rfl rfl)
theorem dX4_takeOption_36 : decode cX4_takeOption 36 = .ok (.ireturn, 1) := dk_172 (dk_at dksX4_takeOption_1 14 rfl rfl)
theorem dX4_takeOption_37 : decode cX4_takeOption 37 = .ok (.aload_n 0, 1) := dk_42 (dk_at dksX4_takeOption_1 15 rfl rfl)
theorem dX4_takeOption_38 : decode cX4_takeOption 38 = .ok (.iload_n 1, 1) := dk_27 (dk_at dksX4_takeOption_1 16 rfl rfl)
theorem dX4_takeOption_39 : decode cX4_takeOption 39 = .ok (.iload_n 2, 1) := dk_28 (dk_at dksX4_takeOption_1 17 rfl rfl)
theorem dX4_takeOption_40 : decode cX4_takeOption 40 = .ok (.invokevirtual 316, 3) := dk_182 1 60 (dk_at dksX4_takeOption_1 18 rfl rfl)
theorem dX4_takeOption_43 : decode cX4_takeOption 43 = .ok (.iload_n 3, 1) := dk_29 (dk_at dksX4_takeOption_1 21 rfl rfl)
theorem dX4_takeOption_44 : decode cX4_takeOption 44 = .ok (.invokestatic 319, 3) := dk_184 1 63 (dk_at dksX4_takeOption_2 0 rfl rfl)
theorem dX4_takeOption_47 : decode cX4_takeOption 47 = .ok (.istore 5, 2) := dk_54 5 (dk_at dksX4_takeOption_2 3 rfl rfl)
theorem dX4_takeOption_49 : decode cX4_takeOption 49 = .ok (.iload 5, 2) := dk_21 5 (dk_at dksX4_takeOption_2 5 rfl rfl)
theorem dX4_takeOption_51 : decode cX4_takeOption 51 = .ok (.ldc 195, 2) := dk_18 195 (dk_at dksX4_takeOption_2 7 rfl rfl)
theorem dX4_takeOption_53 : decode cX4_takeOption 53 = .ok (.if_icmp .ne 6, 3) := dk_160 0 6 (dk_at dksX4_takeOption_2 9 rfl rfl)
theorem dX4_takeOption_56 : decode cX4_takeOption 56 = .ok (.ldc 195, 2) := dk_18 195 (dk_at dksX4_takeOption_2 12 rfl rfl)
theorem dX4_takeOption_58 : decode cX4_takeOption 58 = .ok (.ireturn, 1) := dk_172 (dk_at dksX4_takeOption_2 14 rfl rfl)
theorem dX4_takeOption_59 : decode cX4_takeOption 59 = .ok (.aload_n 0, 1) := dk_42 (dk_at dksX4_takeOption_2 15 rfl rfl)
theorem dX4_takeOption_60 : decode cX4_takeOption 60 = .ok (.invokevirtual 260, 3) := dk_182 1 4 (dk_at dksX4_takeOption_2 16 rfl rfl)
theorem dX4_takeOption_63 : decode cX4_takeOption 63 = .ok (.aload_n 0, 1) := dk_42 (dk_at dksX4_takeOption_2 19 rfl rfl)
theorem dX4_takeOption_64 : decode cX4_takeOption 64 = .ok (.aload_n 0, 1) := dk_42 (dk_at dksX4_takeOption_2 20 rfl rfl)
theorem dX4_takeOption_65 : decode cX4_takeOption 65 = .ok (.getfield 9, 3) := dk_180 0 9 (dk_at dksX4_takeOption_2 21 rfl rfl)
theorem dX4_takeOption_68 : decode cX4_takeOption 68 = .ok (.bipush 65, 2) := dk_16 65 (dk_at dksX4_takeOption_3 0 rfl rfl)
theorem dX4_takeOption_70 : decode cX4_takeOption 70 = .ok (.iload_n 1, 1) := dk_27 (dk_at dksX4_takeOption_3 2 rfl rfl)
theorem dX4_takeOption_71 : decode cX4_takeOption 71 = .ok (.imul, 1) := dk_104 (dk_at dksX4_takeOption_3 3 rfl rfl)
theorem dX4_takeOption_72 : decode cX4_takeOption 72 = .ok (.iconst 0, 1) := dk_3 (dk_at dksX4_takeOption_3 4 rfl rfl)
theorem dX4_takeOption_73 : decode cX4_takeOption 73 = .ok (.invokevirtual 273, 3) := dk_182 1 17 (dk_at dksX4_takeOption_3 5 rfl rfl)
theorem dX4_takeOption_76 : decode cX4_takeOption 76 = .ok (.pop, 1) := dk_87 (dk_at dksX4_takeOption_3 8 rfl rfl)
theorem dX4_takeOption_77 : decode cX4_takeOption 77 = .ok (.aload_n 0, 1) := dk_42 (dk_at dksX4_takeOption_3 9 rfl rfl)
theorem dX4_takeOption_78 : decode cX4_takeOption 78 = .ok (.aload_n 0, 1) := dk_42 (dk_at dksX4_takeOption_3 10 rfl rfl)
theorem dX4_takeOption_79 : decode cX4_takeOption 79 = .ok (.getfield 70, 3) := dk_180 0 70 (dk_at dksX4_takeOption_3 11 rfl rfl)
theorem dX4_takeOption_82 : decode cX4_takeOption 82 = .ok (.iload 5, 2) := dk_21 5 (dk_at dksX4_takeOption_3 14 rfl rfl)
theorem dX4_takeOption_84 : decode cX4_takeOption 84 = .ok (.iaload, 1) := dk_46 (dk_at dksX4_takeOption_3 16 rfl rfl)
theorem dX4_takeOption_85 : decode cX4_takeOption 85 = .ok (.invokevirtual 270, 3) := dk_182 1 14 (dk_at dksX4_takeOption_3 17 rfl rfl)
theorem dX4_takeOption_88 : decode cX4_takeOption 88 = .ok (.istore 6, 2) := dk_54 6 (dk_at dksX4_takeOption_3 20 rfl rfl)
theorem dX4_takeOption_90 : decode cX4_takeOption 90 = .ok (.aload_n 0, 1) := dk_42 (dk_at dksX4_takeOption_3 22 rfl rfl)
theorem dX4_takeOption_91 : decode cX4_takeOption 91 = .ok (.iload 4, 2) := dk_21 4 (dk_at dksX4_takeOption_4 0 rfl rfl)
theorem dX4_takeOption_93 : decode cX4_takeOption 93 = .ok (.invokevirtual 299, 3) := dk_182 1 43 (dk_at dksX4_takeOption_4 2 rfl rfl)
theorem dX4_takeOption_96 : decode cX4_takeOption 96 = .ok (.aload_n 0, 1) := dk_42 (dk_at dksX4_takeOption_4 5 rfl rfl)
theorem dX4_takeOption_97 : decode cX4_takeOption 97 = .ok (.getfield 82, 3) := dk_180 0 82 (dk_at dksX4_takeOption_4 6 rfl rfl)
theorem dX4_takeOption_100 : decode cX4_takeOption 100 = .ok (.iconst 0, 1) := dk_3 (dk_at dksX4_takeOption_4 9 rfl rfl)
theorem dX4_takeOption_101 : decode cX4_takeOption 101 = .ok (.iaload, 1) := dk_46 (dk_at dksX4_takeOption_4 10 rfl rfl)
theorem dX4_takeOption_102 : decode cX4_takeOption 102 = .ok (.ireturn, 1) := dk_172 (dk_at dksX4_takeOption_4 11 rfl rfl)
abbrev cX4_optionsOf : ByteArray := prog_18_method_57_code
def yX4_optionsOf : MethodName := ⟨RX4, "optionsOf", "(II)I"⟩
def dkwX4_optionsOf_1 : List UInt8 := [172]
abbrev dktX4_optionsOf_1 : List UInt8 := dkwX4_optionsOf_1 ++ []
def dkwX4_optionsOf_0 : List UInt8 := [16, 65, 27, 104, 62, 42, 180, 0, 9, 29, 5, 42, 180, 0, 9, 29, 46, 104, 96, 4, 100, 28, 96, 46]
abbrev dktX4_optionsOf_0 : List UInt8 := dkwX4_optionsOf_0 ++ dktX4_optionsOf_1
theorem dksX4_optionsOf_0 : cX4_optionsOf.data.toList.drop 0 = dktX4_optionsOf_0 := by decide +kernel
theorem dksX4_optionsOf_1 : cX4_optionsOf.data.toList.drop 24 = dktX4_optionsOf_1 := dk_seg dksX4_optionsOf_0 24 rfl rfl
theorem dX4_optionsOf_0 : decode cX4_optionsOf 0 = .ok (.bipush 65, 2) := dk_16 65 (dk_at dksX4_optionsOf_0 0 rfl rfl)
theorem dX4_optionsOf_2 : decode cX4_optionsOf 2 = .ok (.iload_n 1, 1) := dk_27 (dk_at dksX4_optionsOf_0 2 rfl rfl)
theorem dX4_optionsOf_3 : decode cX4_optionsOf 3 = .ok (.imul, 1) := dk_104 (dk_at dksX4_optionsOf_0 3 rfl rfl)
theorem dX4_optionsOf_4 : decode cX4_optionsOf 4 = .ok (.istore_n 3, 1) := dk_62 (dk_at dksX4_optionsOf_0 4 rfl rfl)
theorem dX4_optionsOf_5 : decode cX4_optionsOf 5 = .ok (.aload_n 0, 1) := dk_42 (dk_at dksX4_optionsOf_0 5 rfl rfl)
theorem dX4_optionsOf_6 : decode cX4_optionsOf 6 = .ok (.getfield 9, 3) := dk_180 0 9 (dk_at dksX4_optionsOf_0 6 rfl rfl)
theorem dX4_optionsOf_9 : decode cX4_optionsOf 9 = .ok (.iload_n 3, 1) := dk_29 (dk_at dksX4_optionsOf_0 9 rfl rfl)
theorem dX4_optionsOf_10 : decode cX4_optionsOf 10 = .ok (.iconst 2, 1) := dk_5 (dk_at dksX4_optionsOf_0 10 rfl rfl)
theorem dX4_optionsOf_11 : decode cX4_optionsOf 11 = .ok (.aload_n 0, 1) := dk_42 (dk_at dksX4_optionsOf_0 11 rfl rfl)
theorem dX4_optionsOf_12 : decode cX4_optionsOf 12 = .ok (.getfield 9, 3) := dk_180 0 9 (dk_at dksX4_optionsOf_0 12 rfl rfl)
theorem dX4_optionsOf_15 : decode cX4_optionsOf 15 = .ok (.iload_n 3, 1) := dk_29 (dk_at dksX4_optionsOf_0 15 rfl rfl)
theorem dX4_optionsOf_16 : decode cX4_optionsOf 16 = .ok (.iaload, 1) := dk_46 (dk_at dksX4_optionsOf_0 16 rfl rfl)
theorem dX4_optionsOf_17 : decode cX4_optionsOf 17 = .ok (.imul, 1) := dk_104 (dk_at dksX4_optionsOf_0 17 rfl rfl)
theorem dX4_optionsOf_18 : decode cX4_optionsOf 18 = .ok (.iadd, 1) := dk_96 (dk_at dksX4_optionsOf_0 18 rfl rfl)
theorem dX4_optionsOf_19 : decode cX4_optionsOf 19 = .ok (.iconst 1, 1) := dk_4 (dk_at dksX4_optionsOf_0 19 rfl rfl)
theorem dX4_optionsOf_20 : decode cX4_optionsOf 20 = .ok (.isub, 1) := dk_100 (dk_at dksX4_optionsOf_0 20 rfl rfl)
theorem dX4_optionsOf_21 : decode cX4_optionsOf 21 = .ok (.iload_n 2, 1) := dk_28 (dk_at dksX4_optionsOf_0 21 rfl rfl)
theorem dX4_optionsOf_22 : decode cX4_optionsOf 22 = .ok (.iadd, 1) := dk_96 (dk_at dksX4_optionsOf_0 22 rfl rfl)
theorem dX4_optionsOf_23 : decode cX4_optionsOf 23 = .ok (.iaload, 1) := dk_46 (dk_at dksX4_optionsOf_0 23 rfl rfl)
theorem dX4_optionsOf_24 : decode cX4_optionsOf 24 = .ok (.ireturn, 1) := dk_172 (dk_at dksX4_optionsOf_1 0 rfl rfl)
abbrev cX4_option : ByteArray := prog_18_method_59_code
def yX4_option : MethodName := ⟨RX4, "option", "(II)I"⟩
def dkwX4_option_1 : List UInt8 := [172, 132, 2, 255, 132, 3, 1, 167, 255, 229, 18, 195, 172]
abbrev dktX4_option_1 : List UInt8 := dkwX4_option_1 ++ []
def dkwX4_option_0 : List UInt8 := [27, 61, 3, 62, 29, 16, 32, 162, 0, 27, 26, 29, 122, 4, 126, 4, 160, 0, 12, 28, 154, 0, 5, 29]
abbrev dktX4_option_0 : List UInt8 := dkwX4_option_0 ++ dktX4_option_1
theorem dksX4_option_0 : cX4_option.data.toList.drop 0 = dktX4_option_0 := by decide +kernel
theorem dksX4_option_1 : cX4_option.data.toList.drop 24 = dktX4_option_1 := dk_seg dksX4_option_0 24 rfl rfl
theorem dX4_option_0 : decode cX4_option 0 = .ok (.iload_n 1, 1) := dk_27 (dk_at dksX4_option_0 0 rfl rfl)
theorem dX4_option_1 : decode cX4_option 1 = .ok (.istore_n 2, 1) := dk_61 (dk_at dksX4_option_0 1 rfl rfl)
theorem dX4_option_2 : decode cX4_option 2 = .ok (.iconst 0, 1) := dk_3 (dk_at dksX4_option_0 2 rfl rfl)
theorem dX4_option_3 : decode cX4_option 3 = .ok (.istore_n 3, 1) := dk_62 (dk_at dksX4_option_0 3 rfl rfl)
theorem dX4_option_4 : decode cX4_option 4 = .ok (.iload_n 3, 1) := dk_29 (dk_at dksX4_option_0 4 rfl rfl)
theorem dX4_option_5 : decode cX4_option 5 = .ok (.bipush 32, 2) := dk_16 32 (dk_at dksX4_option_0 5 rfl rfl)
theorem dX4_option_7 : decode cX4_option 7 = .ok (.if_icmp .ge 27, 3) := dk_162 0 27 (dk_at dksX4_option_0 7 rfl rfl)
theorem dX4_option_10 : decode cX4_option 10 = .ok (.iload_n 0, 1) := dk_26 (dk_at dksX4_option_0 10 rfl rfl)
theorem dX4_option_11 : decode cX4_option 11 = .ok (.iload_n 3, 1) := dk_29 (dk_at dksX4_option_0 11 rfl rfl)
theorem dX4_option_12 : decode cX4_option 12 = .ok (.ishr, 1) := dk_122 (dk_at dksX4_option_0 12 rfl rfl)
theorem dX4_option_13 : decode cX4_option 13 = .ok (.iconst 1, 1) := dk_4 (dk_at dksX4_option_0 13 rfl rfl)
theorem dX4_option_14 : decode cX4_option 14 = .ok (.iand, 1) := dk_126 (dk_at dksX4_option_0 14 rfl rfl)
theorem dX4_option_15 : decode cX4_option 15 = .ok (.iconst 1, 1) := dk_4 (dk_at dksX4_option_0 15 rfl rfl)
theorem dX4_option_16 : decode cX4_option 16 = .ok (.if_icmp .ne 12, 3) := dk_160 0 12 (dk_at dksX4_option_0 16 rfl rfl)
theorem dX4_option_19 : decode cX4_option 19 = .ok (.iload_n 2, 1) := dk_28 (dk_at dksX4_option_0 19 rfl rfl)
theorem dX4_option_20 : decode cX4_option 20 = .ok (.ifCond .ne 5, 3) := dk_154 0 5 (dk_at dksX4_option_0 20 rfl rfl)
theorem dX4_option_23 : decode cX4_option 23 = .ok (.iload_n 3, 1) := dk_29 (dk_at dksX4_option_0 23 rfl rfl)
theorem dX4_option_24 : decode cX4_option 24 = .ok (.ireturn, 1) := dk_172 (dk_at dksX4_option_1 0 rfl rfl)
theorem dX4_option_25 : decode cX4_option 25 = .ok (.iinc 2 (-1), 3) := dk_132 2 255 (dk_at dksX4_option_1 1 rfl rfl)
theorem dX4_option_28 : decode cX4_option 28 = .ok (.iinc 3 1, 3) := dk_132 3 1 (dk_at dksX4_option_1 4 rfl rfl)
theorem dX4_option_31 : decode cX4_option 31 = .ok (.goto (-27), 3) := dk_167 255 229 (dk_at dksX4_option_1 7 rfl rfl)
theorem dX4_option_34 : decode cX4_option 34 = .ok (.ldc 195, 2) := dk_18 195 (dk_at dksX4_option_1 10 rfl rfl)
theorem dX4_option_36 : decode cX4_option 36 = .ok (.ireturn, 1) := dk_172 (dk_at dksX4_option_1 12 rfl rfl)
abbrev cX4_dominoes : ByteArray := prog_18_method_61_code
def yX4_dominoes : MethodName := ⟨RX4, "dominoes", "(II)I"⟩
def dkwX4_dominoes_8 : List UInt8 := [172, 42, 27, 182, 1, 43, 42, 180, 0, 82, 3, 46, 172]
abbrev dktX4_dominoes_8 : List UInt8 := dkwX4_dominoes_8 ++ []
def dkwX4_dominoes_7 : List UInt8 := [180, 0, 110, 21, 4, 29, 79, 132, 4, 1, 167, 255, 117, 42, 29, 182, 1, 14, 154, 0, 7, 19, 1, 42]
abbrev dktX4_dominoes_7 : List UInt8 := dkwX4_dominoes_7 ++ dktX4_dominoes_8
def dkwX4_dominoes_6 : List UInt8 := [21, 4, 21, 7, 2, 130, 126, 46, 3, 182, 1, 0, 132, 5, 1, 167, 255, 164, 42, 182, 1, 11, 62, 42]
abbrev dktX4_dominoes_6 : List UInt8 := dkwX4_dominoes_6 ++ dktX4_dominoes_7
def dkwX4_dominoes_5 : List UInt8 := [21, 5, 6, 112, 5, 162, 0, 30, 21, 4, 21, 7, 126, 21, 7, 160, 0, 20, 42, 42, 180, 0, 110]
abbrev dktX4_dominoes_5 : List UInt8 := dkwX4_dominoes_5 ++ dktX4_dominoes_6
def dkwX4_dominoes_4 : List UInt8 := [126, 21, 6, 160, 0, 20, 42, 42, 180, 0, 110, 21, 4, 21, 6, 2, 130, 126, 46, 4, 182, 1, 0]
abbrev dktX4_dominoes_4 : List UInt8 := dkwX4_dominoes_4 ++ dktX4_dominoes_5
def dkwX4_dominoes_3 : List UInt8 := [16, 9, 21, 5, 120, 54, 6, 6, 21, 5, 120, 54, 7, 21, 5, 16, 6, 162, 0, 30, 21, 4, 21, 6]
abbrev dktX4_dominoes_3 : List UInt8 := dkwX4_dominoes_3 ++ dktX4_dominoes_4
def dkwX4_dominoes_2 : List UInt8 := [126, 154, 0, 124, 42, 3, 181, 0, 166, 42, 3, 181, 0, 169, 3, 54, 5, 21, 5, 16, 9, 162, 0, 91]
abbrev dktX4_dominoes_2 : List UInt8 := dkwX4_dominoes_2 ++ dktX4_dominoes_3
def dkwX4_dominoes_1 : List UInt8 := [19, 1, 37, 172, 42, 182, 1, 4, 3, 62, 3, 54, 4, 21, 4, 28, 163, 0, 139, 21, 4, 28, 2, 130]
abbrev dktX4_dominoes_1 : List UInt8 := dkwX4_dominoes_1 ++ dktX4_dominoes_2
def dkwX4_dominoes_0 : List UInt8 := [42, 3, 181, 0, 146, 27, 184, 1, 34, 153, 0, 14, 28, 3, 17, 1, 255, 184, 0, 153, 154, 0, 7]
abbrev dktX4_dominoes_0 : List UInt8 := dkwX4_dominoes_0 ++ dktX4_dominoes_1
theorem dksX4_dominoes_0 : cX4_dominoes.data.toList.drop 0 = dktX4_dominoes_0 := by decide +kernel
theorem dksX4_dominoes_1 : cX4_dominoes.data.toList.drop 23 = dktX4_dominoes_1 := dk_seg dksX4_dominoes_0 23 rfl rfl
theorem dksX4_dominoes_2 : cX4_dominoes.data.toList.drop 47 = dktX4_dominoes_2 := dk_seg dksX4_dominoes_1 24 rfl rfl
theorem dksX4_dominoes_3 : cX4_dominoes.data.toList.drop 71 = dktX4_dominoes_3 := dk_seg dksX4_dominoes_2 24 rfl rfl
theorem dksX4_dominoes_4 : cX4_dominoes.data.toList.drop 95 = dktX4_dominoes_4 := dk_seg dksX4_dominoes_3 24 rfl rfl
theorem dksX4_dominoes_5 : cX4_dominoes.data.toList.drop 118 = dktX4_dominoes_5 := dk_seg dksX4_dominoes_4 23 rfl rfl
theorem dksX4_dominoes_6 : cX4_dominoes.data.toList.drop 141 = dktX4_dominoes_6 := dk_seg dksX4_dominoes_5 23 rfl rfl
theorem dksX4_dominoes_7 : cX4_dominoes.data.toList.drop 165 = dktX4_dominoes_7 := dk_seg dksX4_dominoes_6 24 rfl rfl
theorem dksX4_dominoes_8 : cX4_dominoes.data.toList.drop 189 = dktX4_dominoes_8 := dk_seg dksX4_dominoes_7 24 rfl rfl
theorem dX4_dominoes_0 : decode cX4_dominoes 0 = .ok (.aload_n 0, 1) := dk_42 (dk_at dksX4_dominoes_0 0 rfl rfl)
theorem dX4_dominoes_1 : decode cX4_dominoes 1 = .ok (.iconst 0, 1) := dk_3 (dk_at dksX4_dominoes_0 1 rfl rfl)
theorem dX4_dominoes_2 : decode cX4_dominoes 2 = .ok (.putfield 146, 3) := dk_181 0 146 (dk_at dksX4_dominoes_0 2 rfl rfl)
theorem dX4_dominoes_5 : decode cX4_dominoes 5 = .ok (.iload_n 1, 1) := dk_27 (dk_at dksX4_dominoes_0 5 rfl rfl)
theorem dX4_dominoes_6 : decode cX4_dominoes 6 = .ok (.invokestatic 290, 3) := dk_184 1 34 (dk_at dksX4_dominoes_0 6 rfl rfl)
theorem dX4_dominoes_9 : decode cX4_dominoes 9 = .ok (.ifCond .eq 14, 3) := dk_153 0 14 (dk_at dksX4_dominoes_0 9 rfl rfl)
theorem dX4_dominoes_12 : decode cX4_dominoes 12 = .ok (.iload_n 2, 1) := dk_28 (dk_at dksX4_dominoes_0 12 rfl rfl)
theorem dX4_dominoes_13 : decode cX4_dominoes 13 = .ok (.iconst 0, 1) := dk_3 (dk_at dksX4_dominoes_0 13 rfl rfl)
theorem dX4_dominoes_14 : decode cX4_dominoes 14 = .ok (.sipush 511, 3) := dk_17 1 255 (dk_at dksX4_dominoes_0 14 rfl rfl)
theorem dX4_dominoes_17 : decode cX4_dominoes 17 = .ok (.invokestatic 153, 3) := dk_184 0 153 (dk_at dksX4_dominoes_0 17 rfl rfl)
theorem dX4_dominoes_20 : decode cX4_dominoes 20 = .ok (.ifCond .ne 7, 3) := dk_154 0 7 (dk_at dksX4_dominoes_0 20 rfl rfl)
theorem dX4_dominoes_23 : decode cX4_dominoes 23 = .ok (.ldc_w 293, 3) := dk_19 1 37 (dk_at dksX4_dominoes_1 0 rfl rfl)
theorem dX4_dominoes_26 : decode cX4_dominoes 26 = .ok (.ireturn, 1) := dk_172 (dk_at dksX4_dominoes_1 3 rfl rfl)
theorem dX4_dominoes_27 : decode cX4_dominoes 27 = .ok (.aload_n 0, 1) := dk_42 (dk_at dksX4_dominoes_1 4 rfl rfl)
theorem dX4_dominoes_28 : decode cX4_dominoes 28 = .ok (.invokevirtual 260, 3) := dk_182 1 4 (dk_at dksX4_dominoes_1 5 rfl rfl)
theorem dX4_dominoes_31 : decode cX4_dominoes 31 = .ok (.iconst 0, 1) := dk_3 (dk_at dksX4_dominoes_1 8 rfl rfl)
theorem dX4_dominoes_32 : decode cX4_dominoes 32 = .ok (.istore_n 3, 1) := dk_62 (dk_at dksX4_dominoes_1 9 rfl rfl)
theorem dX4_dominoes_33 : decode cX4_dominoes 33 = .ok (.iconst 0, 1) := dk_3 (dk_at dksX4_dominoes_1 10 rfl rfl)
theorem dX4_dominoes_34 : decode cX4_dominoes 34 = .ok (.istore 4, 2) := dk_54 4 (dk_at dksX4_dominoes_1 11 rfl rfl)
theorem dX4_dominoes_36 : decode cX4_dominoes 36 = .ok (.iload 4, 2) := dk_21 4 (dk_at dksX4_dominoes_1 13 rfl rfl)
theorem dX4_dominoes_38 : decode cX4_dominoes 38 = .ok (.iload_n 2, 1) := dk_28 (dk_at dksX4_dominoes_1 15 rfl rfl)
theorem dX4_dominoes_39 : decode cX4_dominoes 39 = .ok (.if_icmp .gt 139, 3) := dk_163 0 139 (dk_at dksX4_dominoes_1 16 rfl rfl)
theorem dX4_dominoes_42 : decode cX4_dominoes 42 = .ok (.iload 4, 2) := dk_21 4 (dk_at dksX4_dominoes_1 19 rfl rfl)
theorem dX4_dominoes_44 : decode cX4_dominoes 44 = .ok (.iload_n 2, 1) := dk_28 (dk_at dksX4_dominoes_1 21 rfl rfl)
theorem dX4_dominoes_45 : decode cX4_dominoes 45 = .ok (.iconst (-1), 1) := dk_2 (dk_at dksX4_dominoes_1 22 rfl rfl)
theorem dX4_dominoes_46 : decode cX4_dominoes 46 = .ok (.ixor, 1) := dk_130 (dk_at dksX4_dominoes_1 23 rfl rfl)
theorem dX4_dominoes_47 : decode cX4_dominoes 47 = .ok (.iand, 1) := dk_126 (dk_at dksX4_dominoes_2 0 rfl rfl)
theorem dX4_dominoes_48 : decode cX4_dominoes 48 = .ok (.ifCond .ne 124, 3) := dk_154 0 124 (dk_at dksX4_dominoes_2 1 rfl rfl)
theorem dX4_dominoes_51 : decode cX4_dominoes 51 = .ok (.aload_n 0, 1) := dk_42 (dk_at dksX4_dominoes_2 4 rfl rfl)
theorem dX4_dominoes_52 : decode cX4_dominoes 52 = .ok (.iconst 0, 1) := dk_3 (dk_at dksX4_dominoes_2 5 rfl rfl)
theorem dX4_dominoes_53 : decode cX4_dominoes 53 = .ok (.putfield 166, 3) := dk_181 0 166 (dk_at dksX4_dominoes_2 6 rfl rfl)
theorem dX4_dominoes_56 : decode cX4_dominoes 56 = .ok (.aload_n 0, 1) := dk_42 (dk_at dksX4_dominoes_2 9 rfl rfl)
theorem dX4_dominoes_57 : decode cX4_dominoes 57 = .ok (.iconst 0, 1) := dk_3 (dk_at dksX4_dominoes_2 10 rfl rfl)
theorem dX4_dominoes_58 : decode cX4_dominoes 58 = .ok (.putfield 169, 3) := dk_181 0 169 (dk_at dksX4_dominoes_2 11 rfl rfl)
theorem dX4_dominoes_61 : decode cX4_dominoes 61 = .ok (.iconst 0, 1) := dk_3 (dk_at dksX4_dominoes_2 14 rfl rfl)
theorem dX4_dominoes_62 : decode cX4_dominoes 62 = .ok (.istore 5, 2) := dk_54 5 (dk_at dksX4_dominoes_2 15 rfl rfl)
theorem dX4_dominoes_64 : decode cX4_dominoes 64 = .ok (.iload 5, 2) := dk_21 5 (dk_at dksX4_dominoes_2 17 rfl rfl)
theorem dX4_dominoes_66 : decode cX4_dominoes 66 = .ok (.bipush 9, 2) := dk_16 9 (dk_at dksX4_dominoes_2 19 rfl rfl)
theorem dX4_dominoes_68 : decode cX4_dominoes 68 = .ok (.if_icmp .ge 91, 3) := dk_162 0 91 (dk_at dksX4_dominoes_2 21 rfl rfl)
theorem dX4_dominoes_71 : decode cX4_dominoes 71 = .ok (.bipush 9, 2) := dk_16 9 (dk_at dksX4_dominoes_3 0 rfl rfl)
theorem dX4_dominoes_73 : decode cX4_dominoes 73 = .ok (.iload 5, 2) := dk_21 5 (dk_at dksX4_dominoes_3 2 rfl rfl)
theorem dX4_dominoes_75 : decode cX4_dominoes 75 = .ok (.ishl, 1) := dk_120 (dk_at dksX4_dominoes_3 4 rfl rfl)
theorem dX4_dominoes_76 : decode cX4_dominoes 76 = .ok (.istore 6, 2) := dk_54 6 (dk_at dksX4_dominoes_3 5 rfl rfl)
theorem dX4_dominoes_78 : decode cX4_dominoes 78 = .ok (.iconst 3, 1) := dk_6 (dk_at dksX4_dominoes_3 7 rfl rfl)
theorem dX4_dominoes_79 : decode cX4_dominoes 79 = .ok (.iload 5, 2) := dk_21 5 (dk_at dksX4_dominoes_3 8 rfl rfl)
theorem dX4_dominoes_81 : decode cX4_dominoes 81 = .ok (.ishl, 1) := dk_120 (dk_at dksX4_dominoes_3 10 rfl rfl)
theorem dX4_dominoes_82 : decode cX4_dominoes 82 = .ok (.istore 7, 2) := dk_54 7 (dk_at dksX4_dominoes_3 11 rfl rfl)
theorem dX4_dominoes_84 : decode cX4_dominoes 84 = .ok (.iload 5, 2) := dk_21 5 (dk_at dksX4_dominoes_3 13 rfl rfl)
theorem dX4_dominoes_86 : decode cX4_dominoes 86 = .ok (.bipush 6, 2) := dk_16 6 (dk_at dksX4_dominoes_3 15 rfl rfl)
theorem dX4_dominoes_88 : decode cX4_dominoes 88 = .ok (.if_icmp .ge 30, 3) := dk_162 0 30 (dk_at dksX4_dominoes_3 17 rfl rfl)
theorem dX4_dominoes_91 : decode cX4_dominoes 91 = .ok (.iload 4, 2) := dk_21 4 (dk_at dksX4_dominoes_3 20 rfl rfl)
theorem dX4_dominoes_93 : decode cX4_dominoes 93 = .ok (.iload 6, 2) := dk_21 6 (dk_at dksX4_dominoes_3 22 rfl rfl)
theorem dX4_dominoes_95 : decode cX4_dominoes 95 = .ok (.iand, 1) := dk_126 (dk_at dksX4_dominoes_4 0 rfl rfl)
theorem dX4_dominoes_96 : decode cX4_dominoes 96 = .ok (.iload 6, 2) := dk_21 6 (dk_at dksX4_dominoes_4 1 rfl rfl)
theorem dX4_dominoes_98 : decode cX4_dominoes 98 = .ok (.if_icmp .ne 20, 3) := dk_160 0 20 (dk_at dksX4_dominoes_4 3 rfl rfl)
theorem dX4_dominoes_101 : decode cX4_dominoes 101 = .ok (.aload_n 0, 1) := dk_42 (dk_at dksX4_dominoes_4 6 rfl rfl)
theorem dX4_dominoes_102 : decode cX4_dominoes 102 = .ok (.aload_n 0, 1) := dk_42 (dk_at dksX4_dominoes_4 7 rfl rfl)
theorem dX4_dominoes_103 : decode cX4_dominoes 103 = .ok (.getfield 110, 3) := dk_180 0 110 (dk_at dksX4_dominoes_4 8 rfl rfl)
theorem dX4_dominoes_106 : decode cX4_dominoes 106 = .ok (.iload 4, 2) := dk_21 4 (dk_at dksX4_dominoes_4 11 rfl rfl)
theorem dX4_dominoes_108 : decode cX4_dominoes 108 = .ok (.iload 6, 2) := dk_21 6 (dk_at dksX4_dominoes_4 13 rfl rfl)
theorem dX4_dominoes_110 : decode cX4_dominoes 110 = .ok (.iconst (-1), 1) := dk_2 (dk_at dksX4_dominoes_4 15 rfl rfl)
theorem dX4_dominoes_111 : decode cX4_dominoes 111 = .ok (.ixor, 1) := dk_130 (dk_at dksX4_dominoes_4 16 rfl rfl)
theorem dX4_dominoes_112 : decode cX4_dominoes 112 = .ok (.iand, 1) := dk_126 (dk_at dksX4_dominoes_4 17 rfl rfl)
theorem dX4_dominoes_113 : decode cX4_dominoes 113 = .ok (.iaload, 1) := dk_46 (dk_at dksX4_dominoes_4 18 rfl rfl)
theorem dX4_dominoes_114 : decode cX4_dominoes 114 = .ok (.iconst 1, 1) := dk_4 (dk_at dksX4_dominoes_4 19 rfl rfl)
theorem dX4_dominoes_115 : decode cX4_dominoes 115 = .ok (.invokevirtual 256, 3) := dk_182 1 0 (dk_at dksX4_dominoes_4 20 rfl rfl)
theorem dX4_dominoes_118 : decode cX4_dominoes 118 = .ok (.iload 5, 2) := dk_21 5 (dk_at dksX4_dominoes_5 0 rfl rfl)
theorem dX4_dominoes_120 : decode cX4_dominoes 120 = .ok (.iconst 3, 1) := dk_6 (dk_at dksX4_dominoes_5 2 rfl rfl)
theorem dX4_dominoes_121 : decode cX4_dominoes 121 = .ok (.irem, 1) := dk_112 (dk_at dksX4_dominoes_5 3 rfl rfl)
theorem dX4_dominoes_122 : decode cX4_dominoes 122 = .ok (.iconst 2, 1) := dk_5 (dk_at dksX4_dominoes_5 4 rfl rfl)
theorem dX4_dominoes_123 : decode cX4_dominoes 123 = .ok (.if_icmp .ge 30, 3) := dk_162 0 30 (dk_at dksX4_dominoes_5 5 rfl rfl)
theorem dX4_dominoes_126 : decode cX4_dominoes 126 = .ok (.iload 4, 2) := dk_21 4 (dk_at dksX4_dominoes_5 8 rfl rfl)
theorem dX4_dominoes_128 : decode cX4_dominoes 128 = .ok (.iload 7, 2) := dk_21 7 (dk_at dksX4_dominoes_5 10 rfl rfl)
theorem dX4_dominoes_130 : decode cX4_dominoes 130 = .ok (.iand, 1) := dk_126 (dk_at dksX4_dominoes_5 12 rfl rfl)
theorem dX4_dominoes_131 : decode cX4_dominoes 131 = .ok (.iload 7, 2) := dk_21 7 (dk_at dksX4_dominoes_5 13 rfl rfl)
theorem dX4_dominoes_133 : decode cX4_dominoes 133 = .ok (.if_icmp .ne 20, 3) := dk_160 0 20 (dk_at dksX4_dominoes_5 15 rfl rfl)
theorem dX4_dominoes_136 : decode cX4_dominoes 136 = .ok (.aload_n 0, 1) := dk_42 (dk_at dksX4_dominoes_5 18 rfl rfl)
theorem dX4_dominoes_137 : decode cX4_dominoes 137 = .ok (.aload_n 0, 1) := dk_42 (dk_at dksX4_dominoes_5 19 rfl rfl)
theorem dX4_dominoes_138 : decode cX4_dominoes 138 = .ok (.getfield 110, 3) := dk_180 0 110 (dk_at dksX4_dominoes_5 20 rfl rfl)
theorem dX4_dominoes_141 : decode cX4_dominoes 141 = .ok (.iload 4, 2) := dk_21 4 (dk_at dksX4_dominoes_6 0 rfl rfl)
theorem dX4_dominoes_143 : decode cX4_dominoes 143 = .ok (.iload 7, 2) := dk_21 7 (dk_at dksX4_dominoes_6 2 rfl rfl)
theorem dX4_dominoes_145 : decode cX4_dominoes 145 = .ok (.iconst (-1), 1) := dk_2 (dk_at dksX4_dominoes_6 4 rfl rfl)
theorem dX4_dominoes_146 : decode cX4_dominoes 146 = .ok (.ixor, 1) := dk_130 (dk_at dksX4_dominoes_6 5 rfl rfl)
theorem dX4_dominoes_147 : decode cX4_dominoes 147 = .ok (.iand, 1) := dk_126 (dk_at dksX4_dominoes_6 6 rfl rfl)
theorem dX4_dominoes_148 : decode cX4_dominoes 148 = .ok (.iaload, 1) := dk_46 (dk_at dksX4_dominoes_6 7 rfl rfl)
theorem dX4_dominoes_149 : decode cX4_dominoes 149 = .ok (.iconst 0, 1) := dk_3 (dk_at dksX4_dominoes_6 8 rfl rfl)
theorem dX4_dominoes_150 : decode cX4_dominoes 150 = .ok (.invokevirtual 256, 3) := dk_182 1 0 (dk_at dksX4_dominoes_6 9 rfl rfl)
theorem dX4_dominoes_153 : decode cX4_dominoes 153 = .ok (.iinc 5 1, 3) := dk_132 5 1 (dk_at dksX4_dominoes_6 12 rfl rfl)
theorem dX4_dominoes_156 : decode cX4_dominoes 156 = .ok (.goto (-92), 3) := dk_167 255 164 (dk_at dksX4_dominoes_6 15 rfl rfl)
theorem dX4_dominoes_159 : decode cX4_dominoes 159 = .ok (.aload_n 0, 1) := dk_42 (dk_at dksX4_dominoes_6 18 rfl rfl)
theorem dX4_dominoes_160 : decode cX4_dominoes 160 = .ok (.invokevirtual 267, 3) := dk_182 1 11 (dk_at dksX4_dominoes_6 19 rfl rfl)
theorem dX4_dominoes_163 : decode cX4_dominoes 163 = .ok (.istore_n 3, 1) := dk_62 (dk_at dksX4_dominoes_6 22 rfl rfl)
theorem dX4_dominoes_164 : decode cX4_dominoes 164 = .ok (.aload_n 0, 1) := dk_42 (dk_at dksX4_dominoes_6 23 rfl rfl)
theorem dX4_dominoes_165 : decode cX4_dominoes 165 = .ok (.getfield 110, 3) := dk_180 0 110 (dk_at dksX4_dominoes_7 0 rfl rfl)
theorem dX4_dominoes_168 : decode cX4_dominoes 168 = .ok (.iload 4, 2) := dk_21 4 (dk_at dksX4_dominoes_7 3 rfl rfl)
theorem dX4_dominoes_170 : decode cX4_dominoes 170 = .ok (.iload_n 3, 1) := dk_29 (dk_at dksX4_dominoes_7 5 rfl rfl)
theorem dX4_dominoes_171 : decode cX4_dominoes 171 = .ok (.iastore, 1) := dk_79 (dk_at dksX4_dominoes_7 6 rfl rfl)
theorem dX4_dominoes_172 : decode cX4_dominoes 172 = .ok (.iinc 4 1, 3) := dk_132 4 1 (dk_at dksX4_dominoes_7 7 rfl rfl)
theorem dX4_dominoes_175 : decode cX4_dominoes 175 = .ok (.goto (-139), 3) := dk_167 255 117 (dk_at dksX4_dominoes_7 10 rfl rfl)
theorem dX4_dominoes_178 : decode cX4_dominoes 178 = .ok (.aload_n 0, 1) := dk_42 (dk_at dksX4_dominoes_7 13 rfl rfl)
theorem dX4_dominoes_179 : decode cX4_dominoes 179 = .ok (.iload_n 3, 1) := dk_29 (dk_at dksX4_dominoes_7 14 rfl rfl)
theorem dX4_dominoes_180 : decode cX4_dominoes 180 = .ok (.invokevirtual 270, 3) := dk_182 1 14 (dk_at dksX4_dominoes_7 15 rfl rfl)
theorem dX4_dominoes_183 : decode cX4_dominoes 183 = .ok (.ifCond .ne 7, 3) := dk_154 0 7 (dk_at dksX4_dominoes_7 18 rfl rfl)
theorem dX4_dominoes_186 : decode cX4_dominoes 186 = .ok (.ldc_w 298, 3) := dk_19 1 42 (dk_at dksX4_dominoes_7 21 rfl rfl)
theorem dX4_dominoes_189 : decode cX4_dominoes 189 = .ok (.ireturn, 1) := dk_172 (dk_at dksX4_dominoes_8 0 rfl rfl)
theorem dX4_dominoes_190 : decode cX4_dominoes 190 = .ok (.aload_n 0, 1) := dk_42 (dk_at dksX4_dominoes_8 1 rfl rfl)
theorem dX4_dominoes_191 : decode cX4_dominoes 191 = .ok (.iload_n 1, 1) := dk_27 (dk_at dksX4_dominoes_8 2 rfl rfl)
theorem dX4_dominoes_192 : decode cX4_dominoes 192 = .ok (.invokevirtual 299, 3) := dk_182 1 43 (dk_at dksX4_dominoes_8 3 rfl rfl)
theorem dX4_dominoes_195 : decode cX4_dominoes 195 = .ok (.aload_n 0, 1) := dk_42 (dk_at dksX4_dominoes_8 6 rfl rfl)
theorem dX4_dominoes_196 : decode cX4_dominoes 196 = .ok (.getfield 82, 3) := dk_180 0 82 (dk_at dksX4_dominoes_8 7 rfl rfl)
theorem dX4_dominoes_199 : decode cX4_dominoes 199 = .ok (.iconst 0, 1) := dk_3 (dk_at dksX4_dominoes_8 10 rfl rfl)
theorem dX4_dominoes_200 : decode cX4_dominoes 200 = .ok (.iaload, 1) := dk_46 (dk_at dksX4_dominoes_8 11 rfl rfl)
theorem dX4_dominoes_201 : decode cX4_dominoes 201 = .ok (.ireturn, 1) := dk_172 (dk_at dksX4_dominoes_8 12 rfl rfl)
abbrev cX4_negate : ByteArray := prog_18_method_62_code
def yX4_negate : MethodName := ⟨RX4, "negate", "(II)I"⟩
def dkwX4_negate_2 : List UInt8 := [42, 180, 0, 82, 3, 184, 0, 231, 42, 28, 182, 1, 43, 42, 180, 0, 82, 3, 46, 172]
abbrev dktX4_negate_2 : List UInt8 := dkwX4_negate_2 ++ []
def dkwX4_negate_1 : List UInt8 := [180, 0, 9, 16, 65, 27, 104, 42, 180, 0, 95, 3, 184, 0, 231, 42, 182, 1, 66, 42, 180, 0, 95, 3]
abbrev dktX4_negate_1 : List UInt8 := dkwX4_negate_1 ++ dktX4_negate_2
def dkwX4_negate_0 : List UInt8 := [42, 3, 181, 0, 146, 27, 184, 1, 34, 153, 0, 10, 28, 184, 1, 34, 154, 0, 7, 19, 1, 37, 172, 42]
abbrev dktX4_negate_0 : List UInt8 := dkwX4_negate_0 ++ dktX4_negate_1
theorem dksX4_negate_0 : cX4_negate.data.toList.drop 0 = dktX4_negate_0 := by decide +kernel
theorem dksX4_negate_1 : cX4_negate.data.toList.drop 24 = dktX4_negate_1 := dk_seg dksX4_negate_0 24 rfl rfl
theorem dksX4_negate_2 : cX4_negate.data.toList.drop 48 = dktX4_negate_2 := dk_seg dksX4_negate_1 24 rfl rfl
theorem dX4_negate_0 : decode cX4_negate 0 = .ok (.aload_n 0, 1) := dk_42 (dk_at dksX4_negate_0 0 rfl rfl)
theorem dX4_negate_1 : decode cX4_negate 1 = .ok (.iconst 0, 1) := dk_3 (dk_at dksX4_negate_0 1 rfl rfl)
theorem dX4_negate_2 : decode cX4_negate 2 = .ok (.putfield 146, 3) := dk_181 0 146 (dk_at dksX4_negate_0 2 rfl rfl)
theorem dX4_negate_5 : decode cX4_negate 5 = .ok (.iload_n 1, 1) := dk_27 (dk_at dksX4_negate_0 5 rfl rfl)
theorem dX4_negate_6 : decode cX4_negate 6 = .ok (.invokestatic 290, 3) := dk_184 1 34 (dk_at dksX4_negate_0 6 rfl rfl)
theorem dX4_negate_9 : decode cX4_negate 9 = .ok (.ifCond .eq 10, 3) := dk_153 0 10 (dk_at dksX4_negate_0 9 rfl rfl)
theorem dX4_negate_12 : decode cX4_negate 12 = .ok (.iload_n 2, 1) := dk_28 (dk_at dksX4_negate_0 12 rfl rfl)
theorem dX4_negate_13 : decode cX4_negate 13 = .ok (.invokestatic 290, 3) := dk_184 1 34 (dk_at dksX4_negate_0 13 rfl rfl)
theorem dX4_negate_16 : decode cX4_negate 16 = .ok (.ifCond .ne 7, 3) := dk_154 0 7 (dk_at dksX4_negate_0 16 rfl rfl)
theorem dX4_negate_19 : decode cX4_negate 19 = .ok (.ldc_w 293, 3) := dk_19 1 37 (dk_at dksX4_negate_0 19 rfl rfl)
theorem dX4_negate_22 : decode cX4_negate 22 = .ok (.ireturn, 1) := dk_172 (dk_at dksX4_negate_0 22 rfl rfl)
theorem dX4_negate_23 : decode cX4_negate 23 = .ok (.aload_n 0, 1) := dk_42 (dk_at dksX4_negate_0 23 rfl rfl)
theorem dX4_negate_24 : decode cX4_negate 24 = .ok (.getfield 9, 3) := dk_180 0 9 (dk_at dksX4_negate_1 0 rfl rfl)
theorem dX4_negate_27 : decode cX4_negate 27 = .ok (.bipush 65, 2) := dk_16 65 (dk_at dksX4_negate_1 3 rfl rfl)
theorem dX4_negate_29 : decode cX4_negate 29 = .ok (.iload_n 1, 1) := dk_27 (dk_at dksX4_negate_1 5 rfl rfl)
theorem dX4_negate_30 : decode cX4_negate 30 = .ok (.imul, 1) := dk_104 (dk_at dksX4_negate_1 6 rfl rfl)
theorem dX4_negate_31 : decode cX4_negate 31 = .ok (.aload_n 0, 1) := dk_42 (dk_at dksX4_negate_1 7 rfl rfl)
theorem dX4_negate_32 : decode cX4_negate 32 = .ok (.getfield 95, 3) := dk_180 0 95 (dk_at dksX4_negate_1 8 rfl rfl)
theorem dX4_negate_35 : decode cX4_negate 35 = .ok (.iconst 0, 1) := dk_3 (dk_at dksX4_negate_1 11 rfl rfl)
theorem dX4_negate_36 : decode cX4_negate 36 = .ok (.invokestatic 231, 3) := dk_184 0 231 (dk_at dksX4_negate_1 12 rfl rfl)
theorem dX4_negate_39 : decode cX4_negate 39 = .ok (.aload_n 0, 1) := dk_42 (dk_at dksX4_negate_1 15 rfl rfl)
theorem dX4_negate_40 : decode cX4_negate 40 = .ok (.invokevirtual 322, 3) := dk_182 1 66 (dk_at dksX4_negate_1 16 rfl rfl)
theorem dX4_negate_43 : decode cX4_negate 43 = .ok (.aload_n 0, 1) := dk_42 (dk_at dksX4_negate_1 19 rfl rfl)
theorem dX4_negate_44 : decode cX4_negate 44 = .ok (.getfield 95, 3) := dk_180 0 95 (dk_at dksX4_negate_1 20 rfl rfl)
theorem dX4_negate_47 : decode cX4_negate 47 = .ok (.iconst 0, 1) := dk_3 (dk_at dksX4_negate_1 23 rfl rfl)
theorem dX4_negate_48 : decode cX4_negate 48 = .ok (.aload_n 0, 1) := dk_42 (dk_at dksX4_negate_2 0 rfl rfl)
theorem dX4_negate_49 : decode cX4_negate 49 = .ok (.getfield 82, 3) := dk_180 0 82 (dk_at dksX4_negate_2 1 rfl rfl)
theorem dX4_negate_52 : decode cX4_negate 52 = .ok (.iconst 0, 1) := dk_3 (dk_at dksX4_negate_2 4 rfl rfl)
theorem dX4_negate_53 : decode cX4_negate 53 = .ok (.invokestatic 231, 3) := dk_184 0 231 (dk_at dksX4_negate_2 5 rfl rfl)
theorem dX4_negate_56 : decode cX4_negate 56 = .ok (.aload_n 0, 1) := dk_42 (dk_at dksX4_negate_2 8 rfl rfl)
theorem dX4_negate_57 : decode cX4_negate 57 = .ok (.iload_n 2, 1) := dk_28 (dk_at dksX4_negate_2 9 rfl rfl)
theorem dX4_negate_58 : decode cX4_negate 58 = .ok (.invokevirtual 299, 3) := dk_182 1 43 (dk_at dksX4_negate_2 10 rfl rfl)
theorem dX4_negate_61 : decode cX4_negate 61 = .ok (.aload_n 0, 1) := dk_42 (dk_at dksX4_negate_2 13 rfl rfl)
theorem dX4_negate_62 : decode cX4_negate 62 = .ok (.getfield 82, 3) := dk_180 0 82 (dk_at dksX4_negate_2 14 rfl rfl)
theorem dX4_negate_65 : decode cX4_negate 65 = .ok (.iconst 0, 1) := dk_3 (dk_at dksX4_negate_2 17 rfl rfl)
theorem dX4_negate_66 : decode cX4_negate 66 = .ok (.iaload, 1) := dk_46 (dk_at dksX4_negate_2 18 rfl rfl)
theorem dX4_negate_67 : decode cX4_negate 67 = .ok (.ireturn, 1) := dk_172 (dk_at dksX4_negate_2 19 rfl rfl)
abbrev cX4_turnSecond : ByteArray := prog_18_method_41_code
def yX4_turnSecond : MethodName := ⟨RX4, "turnSecond", "()V"⟩
def dkwX4_turnSecond_1 : List UInt8 := [180, 0, 82, 3, 42, 180, 0, 95, 3, 184, 0, 231, 177]
abbrev dktX4_turnSecond_1 : List UInt8 := dkwX4_turnSecond_1 ++ []
def dkwX4_turnSecond_0 : List UInt8 := [42, 182, 1, 4, 42, 42, 180, 0, 95, 3, 4, 182, 1, 17, 60, 42, 27, 182, 1, 14, 61, 42]
abbrev dktX4_turnSecond_0 : List UInt8 := dkwX4_turnSecond_0 ++ dktX4_turnSecond_1
theorem dksX4_turnSecond_0 : cX4_turnSecond.data.toList.drop 0 = dktX4_turnSecond_0 := by decide +kernel
theorem dksX4_turnSecond_1 : cX4_turnSecond.data.toList.drop 22 = dktX4_turnSecond_1 := dk_seg dksX4_turnSecond_0 22 rfl rfl
theorem dX4_turnSecond_0 : decode cX4_turnSecond 0 = .ok (.aload_n 0, 1) := dk_42 (dk_at dksX4_turnSecond_0 0 rfl rfl)
theorem dX4_turnSecond_1 : decode cX4_turnSecond 1 = .ok (.invokevirtual 260, 3) := dk_182 1 4 (dk_at dksX4_turnSecond_0 1 rfl rfl)
theorem dX4_turnSecond_4 : decode cX4_turnSecond 4 = .ok (.aload_n 0, 1) := dk_42 (dk_at dksX4_turnSecond_0 4 rfl rfl)
theorem dX4_turnSecond_5 : decode cX4_turnSecond 5 = .ok (.aload_n 0, 1) := dk_42 (dk_at dksX4_turnSecond_0 5 rfl rfl)
theorem dX4_turnSecond_6 : decode cX4_turnSecond 6 = .ok (.getfield 95, 3) := dk_180 0 95 (dk_at dksX4_turnSecond_0 6 rfl rfl)
theorem dX4_turnSecond_9 : decode cX4_turnSecond 9 = .ok (.iconst 0, 1) := dk_3 (dk_at dksX4_turnSecond_0 9 rfl rfl)
theorem dX4_turnSecond_10 : decode cX4_turnSecond 10 = .ok (.iconst 1, 1) := dk_4 (dk_at dksX4_turnSecond_0 10 rfl rfl)
theorem dX4_turnSecond_11 : decode cX4_turnSecond 11 = .ok (.invokevirtual 273, 3) := dk_182 1 17 (dk_at dksX4_turnSecond_0 11 rfl rfl)
theorem dX4_turnSecond_14 : decode cX4_turnSecond 14 = .ok (.istore_n 1, 1) := dk_60 (dk_at dksX4_turnSecond_0 14 rfl rfl)
theorem dX4_turnSecond_15 : decode cX4_turnSecond 15 = .ok (.aload_n 0, 1) := dk_42 (dk_at dksX4_turnSecond_0 15 rfl rfl)
theorem dX4_turnSecond_16 : decode cX4_turnSecond 16 = .ok (.iload_n 1, 1) := dk_27 (dk_at dksX4_turnSecond_0 16 rfl rfl)
theorem dX4_turnSecond_17 : decode cX4_turnSecond 17 = .ok (.invokevirtual 270, 3) := dk_182 1 14 (dk_at dksX4_turnSecond_0 17 rfl rfl)
theorem dX4_turnSecond_20 : decode cX4_turnSecond 20 = .ok (.istore_n 2, 1) := dk_61 (dk_at dksX4_turnSecond_0 20 rfl rfl)
theorem dX4_turnSecond_21 : decode cX4_turnSecond 21 = .ok (.aload_n 0, 1) := dk_42 (dk_at dksX4_turnSecond_0 21 rfl rfl)
theorem dX4_turnSecond_22 : decode cX4_turnSecond 22 = .ok (.getfield 82, 3) := dk_180 0 82 (dk_at dksX4_turnSecond_1 0 rfl rfl)
theorem dX4_turnSecond_25 : decode cX4_turnSecond 25 = .ok (.iconst 0, 1) := dk_3 (dk_at dksX4_turnSecond_1 3 rfl rfl)
theorem dX4_turnSecond_26 : decode cX4_turnSecond 26 = .ok (.aload_n 0, 1) := dk_42 (dk_at dksX4_turnSecond_1 4 rfl rfl)
theorem dX4_turnSecond_27 : decode cX4_turnSecond 27 = .ok (.getfield 95, 3) := dk_180 0 95 (dk_at dksX4_turnSecond_1 5 rfl rfl)
theorem dX4_turnSecond_30 : decode cX4_turnSecond 30 = .ok (.iconst 0, 1) := dk_3 (dk_at dksX4_turnSecond_1 8 rfl rfl)
theorem dX4_turnSecond_31 : decode cX4_turnSecond 31 = .ok (.invokestatic 231, 3) := dk_184 0 231 (dk_at dksX4_turnSecond_1 9 rfl rfl)
theorem dX4_turnSecond_34 : decode cX4_turnSecond 34 = .ok (.return_, 1) := dk_177 (dk_at dksX4_turnSecond_1 12 rfl rfl)
abbrev cX4_add : ByteArray := prog_18_method_65_code
def yX4_add : MethodName := ⟨RX4, "add", "(III)I"⟩
def dkwX4_add_2 : List UInt8 := [180, 0, 82, 3, 46, 172]
abbrev dktX4_add_2 : List UInt8 := dkwX4_add_2 ++ []
def dkwX4_add_1 : List UInt8 := [42, 182, 1, 76, 153, 0, 10, 42, 182, 1, 30, 154, 0, 7, 19, 1, 42, 172, 42, 29, 182, 1, 43, 42]
abbrev dktX4_add_1 : List UInt8 := dkwX4_add_1 ++ dktX4_add_2
def dkwX4_add_0 : List UInt8 := [42, 3, 181, 0, 146, 27, 28, 29, 184, 1, 69, 154, 0, 7, 19, 1, 37, 172, 42, 27, 28, 182, 1, 72]
abbrev dktX4_add_0 : List UInt8 := dkwX4_add_0 ++ dktX4_add_1
theorem dksX4_add_0 : cX4_add.data.toList.drop 0 = dktX4_add_0 := by decide +kernel
theorem dksX4_add_1 : cX4_add.data.toList.drop 24 = dktX4_add_1 := dk_seg dksX4_add_0 24 rfl rfl
theorem dksX4_add_2 : cX4_add.data.toList.drop 48 = dktX4_add_2 := dk_seg dksX4_add_1 24 rfl rfl
theorem dX4_add_0 : decode cX4_add 0 = .ok (.aload_n 0, 1) := dk_42 (dk_at dksX4_add_0 0 rfl rfl)
theorem dX4_add_1 : decode cX4_add 1 = .ok (.iconst 0, 1) := dk_3 (dk_at dksX4_add_0 1 rfl rfl)
theorem dX4_add_2 : decode cX4_add 2 = .ok (.putfield 146, 3) := dk_181 0 146 (dk_at dksX4_add_0 2 rfl rfl)
theorem dX4_add_5 : decode cX4_add 5 = .ok (.iload_n 1, 1) := dk_27 (dk_at dksX4_add_0 5 rfl rfl)
theorem dX4_add_6 : decode cX4_add 6 = .ok (.iload_n 2, 1) := dk_28 (dk_at dksX4_add_0 6 rfl rfl)
theorem dX4_add_7 : decode cX4_add 7 = .ok (.iload_n 3, 1) := dk_29 (dk_at dksX4_add_0 7 rfl rfl)
theorem dX4_add_8 : decode cX4_add 8 = .ok (.invokestatic 325, 3) := dk_184 1 69 (dk_at dksX4_add_0 8 rfl rfl)
theorem dX4_add_11 : decode cX4_add 11 = .ok (.ifCond .ne 7, 3) := dk_154 0 7 (dk_at dksX4_add_0 11 rfl rfl)
theorem dX4_add_14 : decode cX4_add 14 = .ok (.ldc_w 293, 3) := dk_19 1 37 (dk_at dksX4_add_0 14 rfl rfl)
theorem dX4_add_17 : decode cX4_add 17 = .ok (.ireturn, 1) := dk_172 (dk_at dksX4_add_0 17 rfl rfl)
theorem dX4_add_18 : decode cX4_add 18 = .ok (.aload_n 0, 1) := dk_42 (dk_at dksX4_add_0 18 rfl rfl)
theorem dX4_add_19 : decode cX4_add 19 = .ok (.iload_n 1, 1) := dk_27 (dk_at dksX4_add_0 19 rfl rfl)
theorem dX4_add_20 : decode cX4_add 20 = .ok (.iload_n 2, 1) := dk_28 (dk_at dksX4_add_0 20 rfl rfl)
theorem dX4_add_21 : decode cX4_add 21 = .ok (.invokevirtual 328, 3) := dk_182 1 72 (dk_at dksX4_add_0 21 rfl rfl)
theorem dX4_add_24 : decode cX4_add 24 = .ok (.aload_n 0, 1) := dk_42 (dk_at dksX4_add_1 0 rfl rfl)
theorem dX4_add_25 : decode cX4_add 25 = .ok (.invokevirtual 332, 3) := dk_182 1 76 (dk_at dksX4_add_1 1 rfl rfl)
theorem dX4_add_28 : decode cX4_add 28 = .ok (.ifCond .eq 10, 3) := dk_153 0 10 (dk_at dksX4_add_1 4 rfl rfl)
theorem dX4_add_31 : decode cX4_add 31 = .ok (.aload_n 0, 1) := dk_42 (dk_at dksX4_add_1 7 rfl rfl)
theorem dX4_add_32 : decode cX4_add 32 = .ok (.invokevirtual 286, 3) := dk_182 1 30 (dk_at dksX4_add_1 8 rfl rfl)
theorem dX4_add_35 : decode cX4_add 35 = .ok (.ifCond .ne 7, 3) := dk_154 0 7 (dk_at dksX4_add_1 11 rfl rfl)
theorem dX4_add_38 : decode cX4_add 38 = .ok (.ldc_w 298, 3) := dk_19 1 42 (dk_at dksX4_add_1 14 rfl rfl)
theorem dX4_add_41 : decode cX4_add 41 = .ok (.ireturn, 1) := dk_172 (dk_at dksX4_add_1 17 rfl rfl)
theorem dX4_add_42 : decode cX4_add 42 = .ok (.aload_n 0, 1) := dk_42 (dk_at dksX4_add_1 18 rfl rfl)
theorem dX4_add_43 : decode cX4_add 43 = .ok (.iload_n 3, 1) := dk_29 (dk_at dksX4_add_1 19 rfl rfl)
theorem dX4_add_44 : decode cX4_add 44 = .ok (.invokevirtual 299, 3) := dk_182 1 43 (dk_at dksX4_add_1 20 rfl rfl)
theorem dX4_add_47 : decode cX4_add 47 = .ok (.aload_n 0, 1) := dk_42 (dk_at dksX4_add_1 23 rfl rfl)
theorem dX4_add_48 : decode cX4_add 48 = .ok (.getfield 82, 3) := dk_180 0 82 (dk_at dksX4_add_2 0 rfl rfl)
theorem dX4_add_51 : decode cX4_add 51 = .ok (.iconst 0, 1) := dk_3 (dk_at dksX4_add_2 3 rfl rfl)
theorem dX4_add_52 : decode cX4_add 52 = .ok (.iaload, 1) := dk_46 (dk_at dksX4_add_2 4 rfl rfl)
theorem dX4_add_53 : decode cX4_add 53 = .ok (.ireturn, 1) := dk_172 (dk_at dksX4_add_2 5 rfl rfl)
abbrev cX4_areSlots : ByteArray := prog_18_method_63_code
def yX4_areSlots : MethodName := ⟨RX4, "areSlots", "(III)Z"⟩
def dkwX4_areSlots_1 : List UInt8 := [167, 0, 4, 3, 172]
abbrev dktX4_areSlots_1 : List UInt8 := dkwX4_areSlots_1 ++ []
def dkwX4_areSlots_0 : List UInt8 := [26, 184, 1, 34, 153, 0, 21, 27, 184, 1, 34, 153, 0, 14, 28, 184, 1, 34, 153, 0, 7, 4]
abbrev dktX4_areSlots_0 : List UInt8 := dkwX4_areSlots_0 ++ dktX4_areSlots_1
theorem dksX4_areSlots_0 : cX4_areSlots.data.toList.drop 0 = dktX4_areSlots_0 := by decide +kernel
theorem dksX4_areSlots_1 : cX4_areSlots.data.toList.drop 22 = dktX4_areSlots_1 := dk_seg dksX4_areSlots_0 22 rfl rfl
theorem dX4_areSlots_0 : decode cX4_areSlots 0 = .ok (.iload_n 0, 1) := dk_26 (dk_at dksX4_areSlots_0 0 rfl rfl)
theorem dX4_areSlots_1 : decode cX4_areSlots 1 = .ok (.invokestatic 290, 3) := dk_184 1 34 (dk_at dksX4_areSlots_0 1 rfl rfl)
theorem dX4_areSlots_4 : decode cX4_areSlots 4 = .ok (.ifCond .eq 21, 3) := dk_153 0 21 (dk_at dksX4_areSlots_0 4 rfl rfl)
theorem dX4_areSlots_7 : decode cX4_areSlots 7 = .ok (.iload_n 1, 1) := dk_27 (dk_at dksX4_areSlots_0 7 rfl rfl)
theorem dX4_areSlots_8 : decode cX4_areSlots 8 = .ok (.invokestatic 290, 3) := dk_184 1 34 (dk_at dksX4_areSlots_0 8 rfl rfl)
theorem dX4_areSlots_11 : decode cX4_areSlots 11 = .ok (.ifCond .eq 14, 3) := dk_153 0 14 (dk_at dksX4_areSlots_0 11 rfl rfl)
theorem dX4_areSlots_14 : decode cX4_areSlots 14 = .ok (.iload_n 2, 1) := dk_28 (dk_at dksX4_areSlots_0 14 rfl rfl)
theorem dX4_areSlots_15 : decode cX4_areSlots 15 = .ok (.invokestatic 290, 3) := dk_184 1 34 (dk_at dksX4_areSlots_0 15 rfl rfl)
theorem dX4_areSlots_18 : decode cX4_areSlots 18 = .ok (.ifCond .eq 7, 3) := dk_153 0 7 (dk_at dksX4_areSlots_0 18 rfl rfl)
theorem dX4_areSlots_21 : decode cX4_areSlots 21 = .ok (.iconst 1, 1) := dk_4 (dk_at dksX4_areSlots_0 21 rfl rfl)
theorem dX4_areSlots_22 : decode cX4_areSlots 22 = .ok (.goto 4, 3) := dk_167 0 4 (dk_at dksX4_areSlots_1 0 rfl rfl)
theorem dX4_areSlots_25 : decode cX4_areSlots 25 = .ok (.iconst 0, 1) := dk_3 (dk_at dksX4_areSlots_1 3 rfl rfl)
theorem dX4_areSlots_26 : decode cX4_areSlots 26 = .ok (.ireturn, 1) := dk_172 (dk_at dksX4_areSlots_1 4 rfl rfl)
abbrev cX4_takeOperands : ByteArray := prog_18_method_64_code
def yX4_takeOperands : MethodName := ⟨RX4, "takeOperands", "(II)V"⟩
def dkwX4_takeOperands_1 : List UInt8 := [42, 180, 0, 95, 3, 184, 0, 231, 177]
abbrev dktX4_takeOperands_1 : List UInt8 := dkwX4_takeOperands_1 ++ []
def dkwX4_takeOperands_0 : List UInt8 := [42, 180, 0, 9, 16, 65, 27, 104, 42, 180, 0, 92, 3, 184, 0, 231, 42, 180, 0, 9, 16, 65, 28, 104]
abbrev dktX4_takeOperands_0 : List UInt8 := dkwX4_takeOperands_0 ++ dktX4_takeOperands_1
theorem dksX4_takeOperands_0 : cX4_takeOperands.data.toList.drop 0 = dktX4_takeOperands_0 := by decide +kernel
theorem dksX4_takeOperands_1 : cX4_takeOperands.data.toList.drop 24 = dktX4_takeOperands_1 := dk_seg dksX4_takeOperands_0 24 rfl rfl
theorem dX4_takeOperands_0 : decode cX4_takeOperands 0 = .ok (.aload_n 0, 1) := dk_42 (dk_at dksX4_takeOperands_0 0 rfl rfl)
theorem dX4_takeOperands_1 : decode cX4_takeOperands 1 = .ok (.getfield 9, 3) := dk_180 0 9 (dk_at dksX4_takeOperands_0 1 rfl rfl)
theorem dX4_takeOperands_4 : decode cX4_takeOperands 4 = .ok (.bipush 65, 2) := dk_16 65 (dk_at dksX4_takeOperands_0 4 rfl rfl)
theorem dX4_takeOperands_6 : decode cX4_takeOperands 6 = .ok (.iload_n 1, 1) := dk_27 (dk_at dksX4_takeOperands_0 6 rfl rfl)
theorem dX4_takeOperands_7 : decode cX4_takeOperands 7 = .ok (.imul, 1) := dk_104 (dk_at dksX4_takeOperands_0 7 rfl rfl)
theorem dX4_takeOperands_8 : decode cX4_takeOperands 8 = .ok (.aload_n 0, 1) := dk_42 (dk_at dksX4_takeOperands_0 8 rfl rfl)
theorem dX4_takeOperands_9 : decode cX4_takeOperands 9 = .ok (.getfield 92, 3) := dk_180 0 92 (dk_at dksX4_takeOperands_0 9 rfl rfl)
theorem dX4_takeOperands_12 : decode cX4_takeOperands 12 = .ok (.iconst 0, 1) := dk_3 (dk_at dksX4_takeOperands_0 12 rfl rfl)
theorem dX4_takeOperands_13 : decode cX4_takeOperands 13 = .ok (.invokestatic 231, 3) := dk_184 0 231 (dk_at dksX4_takeOperands_0 13 rfl rfl)
theorem dX4_takeOperands_16 : decode cX4_takeOperands 16 = .ok (.aload_n 0, 1) := dk_42 (dk_at dksX4_takeOperands_0 16 rfl rfl)
theorem dX4_takeOperands_17 : decode cX4_takeOperands 17 = .ok (.getfield 9, 3) := dk_180 0 9 (dk_at dksX4_takeOperands_0 17 rfl rfl)
theorem dX4_takeOperands_20 : decode cX4_takeOperands 20 = .ok (.bipush 65, 2) := dk_16 65 (dk_at dksX4_takeOperands_0 20 rfl rfl)
theorem dX4_takeOperands_22 : decode cX4_takeOperands 22 = .ok (.iload_n 2, 1) := dk_28 (dk_at dksX4_takeOperands_0 22 rfl rfl)
theorem dX4_takeOperands_23 : decode cX4_takeOperands 23 = .ok (.imul, 1) := dk_104 (dk_at dksX4_takeOperands_0 23 rfl rfl)
theorem dX4_takeOperands_24 : decode cX4_takeOperands 24 = .ok (.aload_n 0, 1) := dk_42 (dk_at dksX4_takeOperands_1 0 rfl rfl)
theorem dX4_takeOperands_25 : decode cX4_takeOperands 25 = .ok (.getfield 95, 3) := dk_180 0 95 (dk_at dksX4_takeOperands_1 1 rfl rfl)
theorem dX4_takeOperands_28 : decode cX4_takeOperands 28 = .ok (.iconst 0, 1) := dk_3 (dk_at dksX4_takeOperands_1 4 rfl rfl)
theorem dX4_takeOperands_29 : decode cX4_takeOperands 29 = .ok (.invokestatic 231, 3) := dk_184 0 231 (dk_at dksX4_takeOperands_1 5 rfl rfl)
theorem dX4_takeOperands_32 : decode cX4_takeOperands 32 = .ok (.return_, 1) := dk_177 (dk_at dksX4_takeOperands_1 8 rfl rfl)
abbrev cX4_isProduct : ByteArray := prog_18_method_40_code
def yX4_isProduct : MethodName := ⟨RX4, "isProduct", "()Z"⟩
def dkwX4_isProduct_1 : List UInt8 := [172]
abbrev dktX4_isProduct_1 : List UInt8 := dkwX4_isProduct_1 ++ []
def dkwX4_isProduct_0 : List UInt8 := [42, 180, 0, 92, 3, 46, 42, 180, 0, 95, 3, 46, 104, 17, 0, 200, 163, 0, 7, 4, 167, 0, 4, 3]
abbrev dktX4_isProduct_0 : List UInt8 := dkwX4_isProduct_0 ++ dktX4_isProduct_1
theorem dksX4_isProduct_0 : cX4_isProduct.data.toList.drop 0 = dktX4_isProduct_0 := by decide +kernel
theorem dksX4_isProduct_1 : cX4_isProduct.data.toList.drop 24 = dktX4_isProduct_1 := dk_seg dksX4_isProduct_0 24 rfl rfl
theorem dX4_isProduct_0 : decode cX4_isProduct 0 = .ok (.aload_n 0, 1) := dk_42 (dk_at dksX4_isProduct_0 0 rfl rfl)
theorem dX4_isProduct_1 : decode cX4_isProduct 1 = .ok (.getfield 92, 3) := dk_180 0 92 (dk_at dksX4_isProduct_0 1 rfl rfl)
theorem dX4_isProduct_4 : decode cX4_isProduct 4 = .ok (.iconst 0, 1) := dk_3 (dk_at dksX4_isProduct_0 4 rfl rfl)
theorem dX4_isProduct_5 : decode cX4_isProduct 5 = .ok (.iaload, 1) := dk_46 (dk_at dksX4_isProduct_0 5 rfl rfl)
theorem dX4_isProduct_6 : decode cX4_isProduct 6 = .ok (.aload_n 0, 1) := dk_42 (dk_at dksX4_isProduct_0 6 rfl rfl)
theorem dX4_isProduct_7 : decode cX4_isProduct 7 = .ok (.getfield 95, 3) := dk_180 0 95 (dk_at dksX4_isProduct_0 7 rfl rfl)
theorem dX4_isProduct_10 : decode cX4_isProduct 10 = .ok (.iconst 0, 1) := dk_3 (dk_at dksX4_isProduct_0 10 rfl rfl)
theorem dX4_isProduct_11 : decode cX4_isProduct 11 = .ok (.iaload, 1) := dk_46 (dk_at dksX4_isProduct_0 11 rfl rfl)
theorem dX4_isProduct_12 : decode cX4_isProduct 12 = .ok (.imul, 1) := dk_104 (dk_at dksX4_isProduct_0 12 rfl rfl)
theorem dX4_isProduct_13 : decode cX4_isProduct 13 = .ok (.sipush 200, 3) := dk_17 0 200 (dk_at dksX4_isProduct_0 13 rfl rfl)
theorem dX4_isProduct_16 : decode cX4_isProduct 16 = .ok (.if_icmp .gt 7, 3) := dk_163 0 7 (dk_at dksX4_isProduct_0 16 rfl rfl)
theorem dX4_isProduct_19 : decode cX4_isProduct 19 = .ok (.iconst 1, 1) := dk_4 (dk_at dksX4_isProduct_0 19 rfl rfl)
theorem dX4_isProduct_20 : decode cX4_isProduct 20 = .ok (.goto 4, 3) := dk_167 0 4 (dk_at dksX4_isProduct_0 20 rfl rfl)
theorem dX4_isProduct_23 : decode cX4_isProduct 23 = .ok (.iconst 0, 1) := dk_3 (dk_at dksX4_isProduct_0 23 rfl rfl)
theorem dX4_isProduct_24 : decode cX4_isProduct 24 = .ok (.ireturn, 1) := dk_172 (dk_at dksX4_isProduct_1 0 rfl rfl)
abbrev cX4_subtract : ByteArray := prog_18_method_66_code
def yX4_subtract : MethodName := ⟨RX4, "subtract", "(III)I"⟩
def dkwX4_subtract_2 : List UInt8 := [19, 1, 42, 172, 42, 29, 182, 1, 43, 42, 180, 0, 82, 3, 46, 172]
abbrev dktX4_subtract_2 : List UInt8 := dkwX4_subtract_2 ++ []
def dkwX4_subtract_1 : List UInt8 := [42, 182, 1, 76, 154, 0, 7, 19, 1, 42, 172, 42, 182, 1, 66, 42, 182, 1, 30, 154, 0, 7]
abbrev dktX4_subtract_1 : List UInt8 := dkwX4_subtract_1 ++ dktX4_subtract_2
def dkwX4_subtract_0 : List UInt8 := [42, 3, 181, 0, 146, 27, 28, 29, 184, 1, 69, 154, 0, 7, 19, 1, 37, 172, 42, 27, 28, 182, 1, 72]
abbrev dktX4_subtract_0 : List UInt8 := dkwX4_subtract_0 ++ dktX4_subtract_1
theorem dksX4_subtract_0 : cX4_subtract.data.toList.drop 0 = dktX4_subtract_0 := by decide +kernel
theorem dksX4_subtract_1 : cX4_subtract.data.toList.drop 24 = dktX4_subtract_1 := dk_seg dksX4_subtract_0 24 rfl rfl
theorem dksX4_subtract_2 : cX4_subtract.data.toList.drop 46 = dktX4_subtract_2 := dk_seg dksX4_subtract_1 22 rfl rfl
theorem dX4_subtract_0 : decode cX4_subtract 0 = .ok (.aload_n 0, 1) := dk_42 (dk_at dksX4_subtract_0 0 rfl rfl)
theorem dX4_subtract_1 : decode cX4_subtract 1 = .ok (.iconst 0, 1) := dk_3 (dk_at dksX4_subtract_0 1 rfl rfl)
theorem dX4_subtract_2 : decode cX4_subtract 2 = .ok (.putfield 146, 3) := dk_181 0 146 (dk_at dksX4_subtract_0 2 rfl rfl)
theorem dX4_subtract_5 : decode cX4_subtract 5 = .ok (.iload_n 1, 1) := dk_27 (dk_at dksX4_subtract_0 5 rfl rfl)
theorem dX4_subtract_6 : decode cX4_subtract 6 = .ok (.iload_n 2, 1) := dk_28 (dk_at dksX4_subtract_0 6 rfl rfl)
theorem dX4_subtract_7 : decode cX4_subtract 7 = .ok (.iload_n 3, 1) := dk_29 (dk_at dksX4_subtract_0 7 rfl rfl)
theorem dX4_subtract_8 : decode cX4_subtract 8 = .ok (.invokestatic 325, 3) := dk_184 1 69 (dk_at dksX4_subtract_0 8 rfl rfl)
theorem dX4_subtract_11 : decode cX4_subtract 11 = .ok (.ifCond .ne 7, 3) := dk_154 0 7 (dk_at dksX4_subtract_0 11 rfl rfl)
theorem dX4_subtract_14 : decode cX4_subtract 14 = .ok (.ldc_w 293, 3) := dk_19 1 37 (dk_at dksX4_subtract_0 14 rfl rfl)
theorem dX4_subtract_17 : decode cX4_subtract 17 = .ok (.ireturn, 1) := dk_172 (dk_at dksX4_subtract_0 17 rfl rfl)
theorem dX4_subtract_18 : decode cX4_subtract 18 = .ok (.aload_n 0, 1) := dk_42 (dk_at dksX4_subtract_0 18 rfl rfl)
theorem dX4_subtract_19 : decode cX4_subtract 19 = .ok (.iload_n 1, 1) := dk_27 (dk_at dksX4_subtract_0 19 rfl rfl)
theorem dX4_subtract_20 : decode cX4_subtract 20 = .ok (.iload_n 2, 1) := dk_28 (dk_at dksX4_subtract_0 20 rfl rfl)
theorem dX4_subtract_21 : decode cX4_subtract 21 = .ok (.invokevirtual 328, 3) := dk_182 1 72 (dk_at dksX4_subtract_0 21 rfl rfl)
theorem dX4_subtract_24 : decode cX4_subtract 24 = .ok (.aload_n 0, 1) := dk_42 (dk_at dksX4_subtract_1 0 rfl rfl)
theorem dX4_subtract_25 : decode cX4_subtract 25 = .ok (.invokevirtual 332, 3) := dk_182 1 76 (dk_at dksX4_subtract_1 1 rfl rfl)
theorem dX4_subtract_28 : decode cX4_subtract 28 = .ok (.ifCond .ne 7, 3) := dk_154 0 7 (dk_at dksX4_subtract_1 4 rfl rfl)
theorem dX4_subtract_31 : decode cX4_subtract 31 = .ok (.ldc_w 298, 3) := dk_19 1 42 (dk_at dksX4_subtract_1 7 rfl rfl)
theorem dX4_subtract_34 : decode cX4_subtract 34 = .ok (.ireturn, 1) := dk_172 (dk_at dksX4_subtract_1 10 rfl rfl)
theorem dX4_subtract_35 : decode cX4_subtract 35 = .ok (.aload_n 0, 1) := dk_42 (dk_at dksX4_subtract_1 11 rfl rfl)
theorem dX4_subtract_36 : decode cX4_subtract 36 = .ok (.invokevirtual 322, 3) := dk_182 1 66 (dk_at dksX4_subtract_1 12 rfl rfl)
theorem dX4_subtract_39 : decode cX4_subtract 39 = .ok (.aload_n 0, 1) := dk_42 (dk_at dksX4_subtract_1 15 rfl rfl)
theorem dX4_subtract_40 : decode cX4_subtract 40 = .ok (.invokevirtual 286, 3) := dk_182 1 30 (dk_at dksX4_subtract_1 16 rfl rfl)
theorem dX4_subtract_43 : decode cX4_subtract 43 = .ok (.ifCond .ne 7, 3) := dk_154 0 7 (dk_at dksX4_subtract_1 19 rfl rfl)
theorem dX4_subtract_46 : decode cX4_subtract 46 = .ok (.ldc_w 298, 3) := dk_19 1 42 (dk_at dksX4_subtract_2 0 rfl rfl)
theorem dX4_subtract_49 : decode cX4_subtract 49 = .ok (.ireturn, 1) := dk_172 (dk_at dksX4_subtract_2 3 rfl rfl)
theorem dX4_subtract_50 : decode cX4_subtract 50 = .ok (.aload_n 0, 1) := dk_42 (dk_at dksX4_subtract_2 4 rfl rfl)
theorem dX4_subtract_51 : decode cX4_subtract 51 = .ok (.iload_n 3, 1) := dk_29 (dk_at dksX4_subtract_2 5 rfl rfl)
theorem dX4_subtract_52 : decode cX4_subtract 52 = .ok (.invokevirtual 299, 3) := dk_182 1 43 (dk_at dksX4_subtract_2 6 rfl rfl)
theorem dX4_subtract_55 : decode cX4_subtract 55 = .ok (.aload_n 0, 1) := dk_42 (dk_at dksX4_subtract_2 9 rfl rfl)
theorem dX4_subtract_56 : decode cX4_subtract 56 = .ok (.getfield 82, 3) := dk_180 0 82 (dk_at dksX4_subtract_2 10 rfl rfl)
theorem dX4_subtract_59 : decode cX4_subtract 59 = .ok (.iconst 0, 1) := dk_3 (dk_at dksX4_subtract_2 13 rfl rfl)
theorem dX4_subtract_60 : decode cX4_subtract 60 = .ok (.iaload, 1) := dk_46 (dk_at dksX4_subtract_2 14 rfl rfl)
theorem dX4_subtract_61 : decode cX4_subtract 61 = .ok (.ireturn, 1) := dk_172 (dk_at dksX4_subtract_2 15 rfl rfl)
abbrev cX4_ordinalSum : ByteArray := prog_18_method_67_code
def yX4_ordinalSum : MethodName := ⟨RX4, "ordinalSum", "(III)I"⟩
def dkwX4_ordinalSum_2 : List UInt8 := [180, 0, 82, 3, 46, 172]
abbrev dktX4_ordinalSum_2 : List UInt8 := dkwX4_ordinalSum_2 ++ []
def dkwX4_ordinalSum_1 : List UInt8 := [42, 182, 1, 76, 153, 0, 10, 42, 182, 1, 79, 154, 0, 7, 19, 1, 42, 172, 42, 29, 182, 1, 43, 42]
abbrev dktX4_ordinalSum_1 : List UInt8 := dkwX4_ordinalSum_1 ++ dktX4_ordinalSum_2
def dkwX4_ordinalSum_0 : List UInt8 := [42, 3, 181, 0, 146, 27, 28, 29, 184, 1, 69, 154, 0, 7, 19, 1, 37, 172, 42, 27, 28, 182, 1, 72]
abbrev dktX4_ordinalSum_0 : List UInt8 := dkwX4_ordinalSum_0 ++ dktX4_ordinalSum_1
theorem dksX4_ordinalSum_0 : cX4_ordinalSum.data.toList.drop 0 = dktX4_ordinalSum_0 := by decide +kernel
theorem dksX4_ordinalSum_1 : cX4_ordinalSum.data.toList.drop 24 = dktX4_ordinalSum_1 := dk_seg dksX4_ordinalSum_0 24 rfl rfl
theorem dksX4_ordinalSum_2 : cX4_ordinalSum.data.toList.drop 48 = dktX4_ordinalSum_2 := dk_seg dksX4_ordinalSum_1 24 rfl rfl
theorem dX4_ordinalSum_0 : decode cX4_ordinalSum 0 = .ok (.aload_n 0, 1) := dk_42 (dk_at dksX4_ordinalSum_0 0 rfl rfl)
theorem dX4_ordinalSum_1 : decode cX4_ordinalSum 1 = .ok (.iconst 0, 1) := dk_3 (dk_at dksX4_ordinalSum_0 1 rfl rfl)
theorem dX4_ordinalSum_2 : decode cX4_ordinalSum 2 = .ok (.putfield 146, 3) := dk_181 0 146 (dk_at dksX4_ordinalSum_0 2 rfl rfl)
theorem dX4_ordinalSum_5 : decode cX4_ordinalSum 5 = .ok (.iload_n 1, 1) := dk_27 (dk_at dksX4_ordinalSum_0 5 rfl rfl)
theorem dX4_ordinalSum_6 : decode cX4_ordinalSum 6 = .ok (.iload_n 2, 1) := dk_28 (dk_at dksX4_ordinalSum_0 6 rfl rfl)
theorem dX4_ordinalSum_7 : decode cX4_ordinalSum 7 = .ok (.iload_n 3, 1) := dk_29 (dk_at dksX4_ordinalSum_0 7 rfl rfl)
theorem dX4_ordinalSum_8 : decode cX4_ordinalSum 8 = .ok (.invokestatic 325, 3) := dk_184 1 69 (dk_at dksX4_ordinalSum_0 8 rfl rfl)
theorem dX4_ordinalSum_11 : decode cX4_ordinalSum 11 = .ok (.ifCond .ne 7, 3) := dk_154 0 7 (dk_at dksX4_ordinalSum_0 11 rfl rfl)
theorem dX4_ordinalSum_14 : decode cX4_ordinalSum 14 = .ok (.ldc_w 293, 3) := dk_19 1 37 (dk_at dksX4_ordinalSum_0 14 rfl rfl)
theorem dX4_ordinalSum_17 : decode cX4_ordinalSum 17 = .ok (.ireturn, 1) := dk_172 (dk_at dksX4_ordinalSum_0 17 rfl rfl)
theorem dX4_ordinalSum_18 : decode cX4_ordinalSum 18 = .ok (.aload_n 0, 1) := dk_42 (dk_at dksX4_ordinalSum_0 18 rfl rfl)
theorem dX4_ordinalSum_19 : decode cX4_ordinalSum 19 = .ok (.iload_n 1, 1) := dk_27 (dk_at dksX4_ordinalSum_0 19 rfl rfl)
theorem dX4_ordinalSum_20 : decode cX4_ordinalSum 20 = .ok (.iload_n 2, 1) := dk_28 (dk_at dksX4_ordinalSum_0 20 rfl rfl)
theorem dX4_ordinalSum_21 : decode cX4_ordinalSum 21 = .ok (.invokevirtual 328, 3) := dk_182 1 72 (dk_at dksX4_ordinalSum_0 21 rfl rfl)
theorem dX4_ordinalSum_24 : decode cX4_ordinalSum 24 = .ok (.aload_n 0, 1) := dk_42 (dk_at dksX4_ordinalSum_1 0 rfl rfl)
theorem dX4_ordinalSum_25 : decode cX4_ordinalSum 25 = .ok (.invokevirtual 332, 3) := dk_182 1 76 (dk_at dksX4_ordinalSum_1 1 rfl rfl)
theorem dX4_ordinalSum_28 : decode cX4_ordinalSum 28 = .ok (.ifCond .eq 10, 3) := dk_153 0 10 (dk_at dksX4_ordinalSum_1 4 rfl rfl)
theorem dX4_ordinalSum_31 : decode cX4_ordinalSum 31 = .ok (.aload_n 0, 1) := dk_42 (dk_at dksX4_ordinalSum_1 7 rfl rfl)
theorem dX4_ordinalSum_32 : decode cX4_ordinalSum 32 = .ok (.invokevirtual 335, 3) := dk_182 1 79 (dk_at dksX4_ordinalSum_1 8 rfl rfl)
theorem dX4_ordinalSum_35 : decode cX4_ordinalSum 35 = .ok (.ifCond .ne 7, 3) := dk_154 0 7 (dk_at dksX4_ordinalSum_1 11 rfl rfl)
theorem dX4_ordinalSum_38 : decode cX4_ordinalSum 38 = .ok (.ldc_w 298, 3) := dk_19 1 42 (dk_at dksX4_ordinalSum_1 14 rfl rfl)
theorem dX4_ordinalSum_41 : decode cX4_ordinalSum 41 = .ok (.ireturn, 1) := dk_172 (dk_at dksX4_ordinalSum_1 17 rfl rfl)
theorem dX4_ordinalSum_42 : decode cX4_ordinalSum 42 = .ok (.aload_n 0, 1) := dk_42 (dk_at dksX4_ordinalSum_1 18 rfl rfl)
theorem dX4_ordinalSum_43 : decode cX4_ordinalSum 43 = .ok (.iload_n 3, 1) := dk_29 (dk_at dksX4_ordinalSum_1 19 rfl rfl)
theorem dX4_ordinalSum_44 : decode cX4_ordinalSum 44 = .ok (.invokevirtual 299, 3) := dk_182 1 43 (dk_at dksX4_ordinalSum_1 20 rfl rfl)
theorem dX4_ordinalSum_47 : decode cX4_ordinalSum 47 = .ok (.aload_n 0, 1) := dk_42 (dk_at dksX4_ordinalSum_1 23 rfl rfl)
theorem dX4_ordinalSum_48 : decode cX4_ordinalSum 48 = .ok (.getfield 82, 3) := dk_180 0 82 (dk_at dksX4_ordinalSum_2 0 rfl rfl)
theorem dX4_ordinalSum_51 : decode cX4_ordinalSum 51 = .ok (.iconst 0, 1) := dk_3 (dk_at dksX4_ordinalSum_2 3 rfl rfl)
theorem dX4_ordinalSum_52 : decode cX4_ordinalSum 52 = .ok (.iaload, 1) := dk_46 (dk_at dksX4_ordinalSum_2 4 rfl rfl)
theorem dX4_ordinalSum_53 : decode cX4_ordinalSum 53 = .ok (.ireturn, 1) := dk_172 (dk_at dksX4_ordinalSum_2 5 rfl rfl)
abbrev cX4_ordinal : ByteArray := prog_18_method_42_code
def yX4_ordinal : MethodName := ⟨RX4, "ordinal", "()Z"⟩
def dkwX4_ordinal_10 : List UInt8 := [29, 79, 132, 4, 1, 167, 255, 95, 42, 29, 182, 1, 14, 172]
abbrev dktX4_ordinal_10 : List UInt8 := dkwX4_ordinal_10 ++ []
def dkwX4_ordinal_9 : List UInt8 := [21, 5, 46, 3, 182, 1, 0, 132, 5, 1, 167, 255, 138, 42, 182, 1, 11, 62, 42, 180, 0, 101, 21, 4]
abbrev dktX4_ordinal_9 : List UInt8 := dkwX4_ordinal_9 ++ dktX4_ordinal_10
def dkwX4_ordinal_8 : List UInt8 := [180, 0, 95, 5, 5, 21, 4, 104, 96, 46, 21, 5, 122, 4, 126, 4, 160, 0, 15, 42, 42, 180, 0, 101]
abbrev dktX4_ordinal_8 : List UInt8 := dkwX4_ordinal_8 ++ dktX4_ordinal_9
def dkwX4_ordinal_7 : List UInt8 := [96, 46, 21, 5, 122, 4, 126, 4, 160, 0, 15, 42, 42, 180, 0, 101, 21, 5, 46, 4, 182, 1, 0, 42]
abbrev dktX4_ordinal_7 : List UInt8 := dkwX4_ordinal_7 ++ dktX4_ordinal_8
def dkwX4_ordinal_6 : List UInt8 := [160, 0, 15, 42, 42, 180, 0, 98, 21, 5, 46, 3, 182, 1, 0, 42, 180, 0, 95, 4, 5, 21, 4, 104]
abbrev dktX4_ordinal_6 : List UInt8 := dkwX4_ordinal_6 ++ dktX4_ordinal_7
def dkwX4_ordinal_5 : List UInt8 := [4, 160, 0, 15, 42, 42, 180, 0, 98, 21, 5, 46, 4, 182, 1, 0, 28, 21, 5, 122, 4, 126, 4]
abbrev dktX4_ordinal_5 : List UInt8 := dkwX4_ordinal_5 ++ dktX4_ordinal_6
def dkwX4_ordinal_4 : List UInt8 := [181, 0, 166, 42, 3, 181, 0, 169, 3, 54, 5, 21, 5, 16, 32, 162, 0, 117, 27, 21, 5, 122, 4, 126]
abbrev dktX4_ordinal_4 : List UInt8 := dkwX4_ordinal_4 ++ dktX4_ordinal_5
def dkwX4_ordinal_3 : List UInt8 := [3, 46, 104, 46, 61, 3, 62, 3, 54, 4, 21, 4, 42, 180, 0, 95, 3, 46, 162, 0, 156, 42, 3]
abbrev dktX4_ordinal_3 : List UInt8 := dkwX4_ordinal_3 ++ dktX4_ordinal_4
def dkwX4_ordinal_2 : List UInt8 := [180, 0, 92, 5, 42, 180, 0, 92, 3, 46, 104, 4, 100, 46, 60, 42, 180, 0, 92, 5, 42, 180, 0, 92]
abbrev dktX4_ordinal_2 : List UInt8 := dkwX4_ordinal_2 ++ dktX4_ordinal_3
def dkwX4_ordinal_1 : List UInt8 := [162, 0, 21, 42, 180, 0, 98, 27, 42, 180, 0, 70, 27, 46, 79, 132, 1, 1, 167, 255, 231, 42]
abbrev dktX4_ordinal_1 : List UInt8 := dkwX4_ordinal_1 ++ dktX4_ordinal_2
def dkwX4_ordinal_0 : List UInt8 := [42, 182, 1, 4, 42, 42, 180, 0, 92, 3, 3, 182, 1, 17, 87, 3, 60, 27, 42, 180, 0, 92, 3, 46]
abbrev dktX4_ordinal_0 : List UInt8 := dkwX4_ordinal_0 ++ dktX4_ordinal_1
theorem dksX4_ordinal_0 : cX4_ordinal.data.toList.drop 0 = dktX4_ordinal_0 := by decide +kernel
theorem dksX4_ordinal_1 : cX4_ordinal.data.toList.drop 24 = dktX4_ordinal_1 := dk_seg dksX4_ordinal_0 24 rfl rfl
theorem dksX4_ordinal_2 : cX4_ordinal.data.toList.drop 46 = dktX4_ordinal_2 := dk_seg dksX4_ordinal_1 22 rfl rfl
theorem dksX4_ordinal_3 : cX4_ordinal.data.toList.drop 70 = dktX4_ordinal_3 := dk_seg dksX4_ordinal_2 24 rfl rfl
theorem dksX4_ordinal_4 : cX4_ordinal.data.toList.drop 93 = dktX4_ordinal_4 := dk_seg dksX4_ordinal_3 23 rfl rfl
theorem dksX4_ordinal_5 : cX4_ordinal.data.toList.drop 117 = dktX4_ordinal_5 := dk_seg dksX4_ordinal_4 24 rfl rfl
theorem dksX4_ordinal_6 : cX4_ordinal.data.toList.drop 140 = dktX4_ordinal_6 := dk_seg dksX4_ordinal_5 23 rfl rfl
theorem dksX4_ordinal_7 : cX4_ordinal.data.toList.drop 164 = dktX4_ordinal_7 := dk_seg dksX4_ordinal_6 24 rfl rfl
theorem dksX4_ordinal_8 : cX4_ordinal.data.toList.drop 188 = dktX4_ordinal_8 := dk_seg dksX4_ordinal_7 24 rfl rfl
theorem dksX4_ordinal_9 : cX4_ordinal.data.toList.drop 212 = dktX4_ordinal_9 := dk_seg dksX4_ordinal_8 24 rfl rfl
theorem dksX4_ordinal_10 : cX4_ordinal.data.toList.drop 236 = dktX4_ordinal_10 := dk_seg dksX4_ordinal_9 24 rfl rfl
theorem dX4_ordinal_0 : decode cX4_ordinal 0 = .ok (.aload_n 0, 1) := dk_42 (dk_at dksX4_ordinal_0 0 rfl rfl)
theorem dX4_ordinal_1 : decode cX4_ordinal 1 = .ok (.invokevirtual 260, 3) := dk_182 1 4 (dk_at dksX4_ordinal_0 1 rfl rfl)
theorem dX4_ordinal_4 : decode cX4_ordinal 4 = .ok (.aload_n 0, 1) := dk_42 (dk_at dksX4_ordinal_0 4 rfl rfl)
theorem dX4_ordinal_5 : decode cX4_ordinal 5 = .ok (.aload_n 0, 1) := dk_42 (dk_at dksX4_ordinal_0 5 rfl rfl)
theorem dX4_ordinal_6 : decode cX4_ordinal 6 = .ok (.getfield 92, 3) := dk_180 0 92 (dk_at dksX4_ordinal_0 6 rfl rfl)
theorem dX4_ordinal_9 : decode cX4_ordinal 9 = .ok (.iconst 0, 1) := dk_3 (dk_at dksX4_ordinal_0 9 rfl rfl)
theorem dX4_ordinal_10 : decode cX4_ordinal 10 = .ok (.iconst 0, 1) := dk_3 (dk_at dksX4_ordinal_0 10 rfl rfl)
theorem dX4_ordinal_11 : decode cX4_ordinal 11 = .ok (.invokevirtual 273, 3) := dk_182 1 17 (dk_at dksX4_ordinal_0 11 rfl rfl)
theorem dX4_ordinal_14 : decode cX4_ordinal 14 = .ok (.pop, 1) := dk_87 (dk_at dksX4_ordinal_0 14 rfl rfl)
theorem dX4_ordinal_15 : decode cX4_ordinal 15 = .ok (.iconst 0, 1) := dk_3 (dk_at dksX4_ordinal_0 15 rfl rfl)
theorem dX4_ordinal_16 : decode cX4_ordinal 16 = .ok (.istore_n 1, 1) := dk_60 (dk_at dksX4_ordinal_0 16 rfl rfl)
theorem dX4_ordinal_17 : decode cX4_ordinal 17 = .ok (.iload_n 1, 1) := dk_27 (dk_at dksX4_ordinal_0 17 rfl rfl)
theorem dX4_ordinal_18 : decode cX4_ordinal 18 = .ok (.aload_n 0, 1) := dk_42 (dk_at dksX4_ordinal_0 18 rfl rfl)
theorem dX4_ordinal_19 : decode cX4_ordinal 19 = .ok (.getfield 92, 3) := dk_180 0 92 (dk_at dksX4_ordinal_0 19 rfl rfl)
theorem dX4_ordinal_22 : decode cX4_ordinal 22 = .ok (.iconst 0, 1) := dk_3 (dk_at dksX4_ordinal_0 22 rfl rfl)
theorem dX4_ordinal_23 : decode cX4_ordinal 23 = .ok (.iaload, 1) := dk_46 (dk_at dksX4_ordinal_0 23 rfl rfl)
theorem dX4_ordinal_24 : decode cX4_ordinal 24 = .ok (.if_icmp .ge 21, 3) := dk_162 0 21 (dk_at dksX4_ordinal_1 0 rfl rfl)
theorem dX4_ordinal_27 : decode cX4_ordinal 27 = .ok (.aload_n 0, 1) := dk_42 (dk_at dksX4_ordinal_1 3 rfl rfl)
theorem dX4_ordinal_28 : decode cX4_ordinal 28 = .ok (.getfield 98, 3) := dk_180 0 98 (dk_at dksX4_ordinal_1 4 rfl rfl)
theorem dX4_ordinal_31 : decode cX4_ordinal 31 = .ok (.iload_n 1, 1) := dk_27 (dk_at dksX4_ordinal_1 7 rfl rfl)
theorem dX4_ordinal_32 : decode cX4_ordinal 32 = .ok (.aload_n 0, 1) := dk_42 (dk_at dksX4_ordinal_1 8 rfl rfl)
theorem dX4_ordinal_33 : decode cX4_ordinal 33 = .ok (.getfield 70, 3) := dk_180 0 70 (dk_at dksX4_ordinal_1 9 rfl rfl)
theorem dX4_ordinal_36 : decode cX4_ordinal 36 = .ok (.iload_n 1, 1) := dk_27 (dk_at dksX4_ordinal_1 12 rfl rfl)
theorem dX4_ordinal_37 : decode cX4_ordinal 37 = .ok (.iaload, 1) := dk_46 (dk_at dksX4_ordinal_1 13 rfl rfl)
theorem dX4_ordinal_38 : decode cX4_ordinal 38 = .ok (.iastore, 1) := dk_79 (dk_at dksX4_ordinal_1 14 rfl rfl)
theorem dX4_ordinal_39 : decode cX4_ordinal 39 = .ok (.iinc 1 1, 3) := dk_132 1 1 (dk_at dksX4_ordinal_1 15 rfl rfl)
theorem dX4_ordinal_42 : decode cX4_ordinal 42 = .ok (.goto (-25), 3) := dk_167 255 231 (dk_at dksX4_ordinal_1 18 rfl rfl)
theorem dX4_ordinal_45 : decode cX4_ordinal 45 = .ok (.aload_n 0, 1) := dk_42 (dk_at dksX4_ordinal_1 21 rfl rfl)
theorem dX4_ordinal_46 : decode cX4_ordinal 46 = .ok (.getfield 92, 3) := dk_180 0 92 (dk_at dksX4_ordinal_2 0 rfl rfl)
theorem dX4_ordinal_49 : decode cX4_ordinal 49 = .ok (.iconst 2, 1) := dk_5 (dk_at dksX4_ordinal_2 3 rfl rfl)
theorem dX4_ordinal_50 : decode cX4_ordinal 50 = .ok (.aload_n 0, 1) := dk_42 (dk_at dksX4_ordinal_2 4 rfl rfl)
theorem dX4_ordinal_51 : decode cX4_ordinal 51 = .ok (.getfield 92, 3) := dk_180 0 92 (dk_at dksX4_ordinal_2 5 rfl rfl)
theorem dX4_ordinal_54 : decode cX4_ordinal 54 = .ok (.iconst 0, 1) := dk_3 (dk_at dksX4_ordinal_2 8 rfl rfl)
theorem dX4_ordinal_55 : decode cX4_ordinal 55 = .ok (.iaload, 1) := dk_46 (dk_at dksX4_ordinal_2 9 rfl rfl)
theorem dX4_ordinal_56 : decode cX4_ordinal 56 = .ok (.imul, 1) := dk_104 (dk_at dksX4_ordinal_2 10 rfl rfl)
theorem dX4_ordinal_57 : decode cX4_ordinal 57 = .ok (.iconst 1, 1) := dk_4 (dk_at dksX4_ordinal_2 11 rfl rfl)
theorem dX4_ordinal_58 : decode cX4_ordinal 58 = .ok (.isub, 1) := dk_100 (dk_at dksX4_ordinal_2 12 rfl rfl)
theorem dX4_ordinal_59 : decode cX4_ordinal 59 = .ok (.iaload, 1) := dk_46 (dk_at dksX4_ordinal_2 13 rfl rfl)
theorem dX4_ordinal_60 : decode cX4_ordinal 60 = .ok (.istore_n 1, 1) := dk_60 (dk_at dksX4_ordinal_2 14 rfl rfl)
theorem dX4_ordinal_61 : decode cX4_ordinal 61 = .ok (.aload_n 0, 1) := dk_42 (dk_at dksX4_ordinal_2 15 rfl rfl)
theorem dX4_ordinal_62 : decode cX4_ordinal 62 = .ok (.getfield 92, 3) := dk_180 0 92 (dk_at dksX4_ordinal_2 16 rfl rfl)
theorem dX4_ordinal_65 : decode cX4_ordinal 65 = .ok (.iconst 2, 1) := dk_5 (dk_at dksX4_ordinal_2 19 rfl rfl)
theorem dX4_ordinal_66 : decode cX4_ordinal 66 = .ok (.aload_n 0, 1) := dk_42 (dk_at dksX4_ordinal_2 20 rfl rfl)
theorem dX4_ordinal_67 : decode cX4_ordinal 67 = .ok (.getfield 92, 3) := dk_180 0 92 (dk_at dksX4_ordinal_2 21 rfl rfl)
theorem dX4_ordinal_70 : decode cX4_ordinal 70 = .ok (.iconst 0, 1) := dk_3 (dk_at dksX4_ordinal_3 0 rfl rfl)
theorem dX4_ordinal_71 : decode cX4_ordinal 71 = .ok (.iaload, 1) := dk_46 (dk_at dksX4_ordinal_3 1 rfl rfl)
theorem dX4_ordinal_72 : decode cX4_ordinal 72 = .ok (.imul, 1) := dk_104 (dk_at dksX4_ordinal_3 2 rfl rfl)
theorem dX4_ordinal_73 : decode cX4_ordinal 73 = .ok (.iaload, 1) := dk_46 (dk_at dksX4_ordinal_3 3 rfl rfl)
theorem dX4_ordinal_74 : decode cX4_ordinal 74 = .ok (.istore_n 2, 1) := dk_61 (dk_at dksX4_ordinal_3 4 rfl rfl)
theorem dX4_ordinal_75 : decode cX4_ordinal 75 = .ok (.iconst 0, 1) := dk_3 (dk_at dksX4_ordinal_3 5 rfl rfl)
theorem dX4_ordinal_76 : decode cX4_ordinal 76 = .ok (.istore_n 3, 1) := dk_62 (dk_at dksX4_ordinal_3 6 rfl rfl)
theorem dX4_ordinal_77 : decode cX4_ordinal 77 = .ok (.iconst 0, 1) := dk_3 (dk_at dksX4_ordinal_3 7 rfl rfl)
theorem dX4_ordinal_78 : decode cX4_ordinal 78 = .ok (.istore 4, 2) := dk_54 4 (dk_at dksX4_ordinal_3 8 rfl rfl)
theorem dX4_ordinal_80 : decode cX4_ordinal 80 = .ok (.iload 4, 2) := dk_21 4 (dk_at dksX4_ordinal_3 10 rfl rfl)
theorem dX4_ordinal_82 : decode cX4_ordinal 82 = .ok (.aload_n 0, 1) := dk_42 (dk_at dksX4_ordinal_3 12 rfl rfl)
theorem dX4_ordinal_83 : decode cX4_ordinal 83 = .ok (.getfield 95, 3) := dk_180 0 95 (dk_at dksX4_ordinal_3 13 rfl rfl)
theorem dX4_ordinal_86 : decode cX4_ordinal 86 = .ok (.iconst 0, 1) := dk_3 (dk_at dksX4_ordinal_3 16 rfl rfl)
theorem dX4_ordinal_87 : decode cX4_ordinal 87 = .ok (.iaload, 1) := dk_46 (dk_at dksX4_ordinal_3 17 rfl rfl)
theorem dX4_ordinal_88 : decode cX4_ordinal 88 = .ok (.if_icmp .ge 156, 3) := dk_162 0 156 (dk_at dksX4_ordinal_3 18 rfl rfl)
theorem dX4_ordinal_91 : decode cX4_ordinal 91 = .ok (.aload_n 0, 1) := dk_42 (dk_at dksX4_ordinal_3 21 rfl rfl)
theorem dX4_ordinal_92 : decode cX4_ordinal 92 = .ok (.iconst 0, 1) := dk_3 (dk_at dksX4_ordinal_3 22 rfl rfl)
theorem dX4_ordinal_93 : decode cX4_ordinal 93 = .ok (.putfield 166, 3) := dk_181 0 166 (dk_at dksX4_ordinal_4 0 rfl rfl)
theorem dX4_ordinal_96 : decode cX4_ordinal 96 = .ok (.aload_n 0, 1) := dk_42 (dk_at dksX4_ordinal_4 3 rfl rfl)
theorem dX4_ordinal_97 : decode cX4_ordinal 97 = .ok (.iconst 0, 1) := dk_3 (dk_at dksX4_ordinal_4 4 rfl rfl)
theorem dX4_ordinal_98 : decode cX4_ordinal 98 = .ok (.putfield 169, 3) := dk_181 0 169 (dk_at dksX4_ordinal_4 5 rfl rfl)
theorem dX4_ordinal_101 : decode cX4_ordinal 101 = .ok (.iconst 0, 1) := dk_3 (dk_at dksX4_ordinal_4 8 rfl rfl)
theorem dX4_ordinal_102 : decode cX4_ordinal 102 = .ok (.istore 5, 2) := dk_54 5 (dk_at dksX4_ordinal_4 9 rfl rfl)
theorem dX4_ordinal_104 : decode cX4_ordinal 104 = .ok (.iload 5, 2) := dk_21 5 (dk_at dksX4_ordinal_4 11 rfl rfl)
theorem dX4_ordinal_106 : decode cX4_ordinal 106 = .ok (.bipush 32, 2) := dk_16 32 (dk_at dksX4_ordinal_4 13 rfl rfl)
theorem dX4_ordinal_108 : decode cX4_ordinal 108 = .ok (.if_icmp .ge 117, 3) := dk_162 0 117 (dk_at dksX4_ordinal_4 15 rfl rfl)
theorem dX4_ordinal_111 : decode cX4_ordinal 111 = .ok (.iload_n 1, 1) := dk_27 (dk_at dksX4_ordinal_4 18 rfl rfl)
theorem dX4_ordinal_112 : decode cX4_ordinal 112 = .ok (.iload 5, 2) := dk_21 5 (dk_at dksX4_ordinal_4 19 rfl rfl)
theorem dX4_ordinal_114 : decode cX4_ordinal 114 = .ok (.ishr, 1) := dk_122 (dk_at dksX4_ordinal_4 21 rfl rfl)
theorem dX4_ordinal_115 : decode cX4_ordinal 115 = .ok (.iconst 1, 1) := dk_4 (dk_at dksX4_ordinal_4 22 rfl rfl)
theorem dX4_ordinal_116 : decode cX4_ordinal 116 = .ok (.iand, 1) := dk_126 (dk_at dksX4_ordinal_4 23 rfl rfl)
theorem dX4_ordinal_117 : decode cX4_ordinal 117 = .ok (.iconst 1, 1) := dk_4 (dk_at dksX4_ordinal_5 0 rfl rfl)
theorem dX4_ordinal_118 : decode cX4_ordinal 118 = .ok (.if_icmp .ne 15, 3) := dk_160 0 15 (dk_at dksX4_ordinal_5 1 rfl rfl)
theorem dX4_ordinal_121 : decode cX4_ordinal 121 = .ok (.aload_n 0, 1) := dk_42 (dk_at dksX4_ordinal_5 4 rfl rfl)
theorem dX4_ordinal_122 : decode cX4_ordinal 122 = .ok (.aload_n 0, 1) := dk_42 (dk_at dksX4_ordinal_5 5 rfl rfl)
theorem dX4_ordinal_123 : decode cX4_ordinal 123 = .ok (.getfield 98, 3) := dk_180 0 98 (dk_at dksX4_ordinal_5 6 rfl rfl)
theorem dX4_ordinal_126 : decode cX4_ordinal 126 = .ok (.iload 5, 2) := dk_21 5 (dk_at dksX4_ordinal_5 9 rfl rfl)
theorem dX4_ordinal_128 : decode cX4_ordinal 128 = .ok (.iaload, 1) := dk_46 (dk_at dksX4_ordinal_5 11 rfl rfl)
theorem dX4_ordinal_129 : decode cX4_ordinal 129 = .ok (.iconst 1, 1) := dk_4 (dk_at dksX4_ordinal_5 12 rfl rfl)
theorem dX4_ordinal_130 : decode cX4_ordinal 130 = .ok (.invokevirtual 256, 3) := dk_182 1 0 (dk_at dksX4_ordinal_5 13 rfl rfl)
theorem dX4_ordinal_133 : decode cX4_ordinal 133 = .ok (.iload_n 2, 1) := dk_28 (dk_at dksX4_ordinal_5 16 rfl rfl)
theorem dX4_ordinal_134 : decode cX4_ordinal 134 = .ok (.iload 5, 2) := dk_21 5 (dk_at dksX4_ordinal_5 17 rfl rfl)
theorem dX4_ordinal_136 : decode cX4_ordinal 136 = .ok (.ishr, 1) := dk_122 (dk_at dksX4_ordinal_5 19 rfl rfl)
theorem dX4_ordinal_137 : decode cX4_ordinal 137 = .ok (.iconst 1, 1) := dk_4 (dk_at dksX4_ordinal_5 20 rfl rfl)
theorem dX4_ordinal_138 : decode cX4_ordinal 138 = .ok (.iand, 1) := dk_126 (dk_at dksX4_ordinal_5 21 rfl rfl)
theorem dX4_ordinal_139 : decode cX4_ordinal 139 = .ok (.iconst 1, 1) := dk_4 (dk_at dksX4_ordinal_5 22 rfl rfl)
theorem dX4_ordinal_140 : decode cX4_ordinal 140 = .ok (.if_icmp .ne 15, 3) := dk_160 0 15 (dk_at dksX4_ordinal_6 0 rfl rfl)
theorem dX4_ordinal_143 : decode cX4_ordinal 143 = .ok (.aload_n 0, 1) := dk_42 (dk_at dksX4_ordinal_6 3 rfl rfl)
theorem dX4_ordinal_144 : decode cX4_ordinal 144 = .ok (.aload_n 0, 1) := dk_42 (dk_at dksX4_ordinal_6 4 rfl rfl)
theorem dX4_ordinal_145 : decode cX4_ordinal 145 = .ok (.getfield 98, 3) := dk_180 0 98 (dk_at dksX4_ordinal_6 5 rfl rfl)
theorem dX4_ordinal_148 : decode cX4_ordinal 148 = .ok (.iload 5, 2) := dk_21 5 (dk_at dksX4_ordinal_6 8 rfl rfl)
theorem dX4_ordinal_150 : decode cX4_ordinal 150 = .ok (.iaload, 1) := dk_46 (dk_at dksX4_ordinal_6 10 rfl rfl)
theorem dX4_ordinal_151 : decode cX4_ordinal 151 = .ok (.iconst 0, 1) := dk_3 (dk_at dksX4_ordinal_6 11 rfl rfl)
theorem dX4_ordinal_152 : decode cX4_ordinal 152 = .ok (.invokevirtual 256, 3) := dk_182 1 0 (dk_at dksX4_ordinal_6 12 rfl rfl)
theorem dX4_ordinal_155 : decode cX4_ordinal 155 = .ok (.aload_n 0, 1) := dk_42 (dk_at dksX4_ordinal_6 15 rfl rfl)
theorem dX4_ordinal_156 : decode cX4_ordinal 156 = .ok (.getfield 95, 3) := dk_180 0 95 (dk_at dksX4_ordinal_6 16 rfl rfl)
theorem dX4_ordinal_159 : decode cX4_ordinal 159 = .ok (.iconst 1, 1) := dk_4 (dk_at dksX4_ordinal_6 19 rfl rfl)
theorem dX4_ordinal_160 : decode cX4_ordinal 160 = .ok (.iconst 2, 1) := dk_5 (dk_at dksX4_ordinal_6 20 rfl rfl)
theorem dX4_ordinal_161 : decode cX4_ordinal 161 = .ok (.iload 4, 2) := dk_21 4 (dk_at dksX4_ordinal_6 21 rfl rfl)
theorem dX4_ordinal_163 : decode cX4_ordinal 163 = .ok (.imul, 1) := dk_104 (dk_at dksX4_ordinal_6 23 rfl rfl)
theorem dX4_ordinal_164 : decode cX4_ordinal 164 = .ok (.iadd, 1) := dk_96 (dk_at dksX4_ordinal_7 0 rfl rfl)
theorem dX4_ordinal_165 : decode cX4_ordinal 165 = .ok (.iaload, 1) := dk_46 (dk_at dksX4_ordinal_7 1 rfl rfl)
theorem dX4_ordinal_166 : decode cX4_ordinal 166 = .ok (.iload 5, 2) := dk_21 5 (dk_at dksX4_ordinal_7 2 rfl rfl)
theorem dX4_ordinal_168 : decode cX4_ordinal 168 = .ok (.ishr, 1) := dk_122 (dk_at dksX4_ordinal_7 4 rfl rfl)
theorem dX4_ordinal_169 : decode cX4_ordinal 169 = .ok (.iconst 1, 1) := dk_4 (dk_at dksX4_ordinal_7 5 rfl rfl)
theorem dX4_ordinal_170 : decode cX4_ordinal 170 = .ok (.iand, 1) := dk_126 (dk_at dksX4_ordinal_7 6 rfl rfl)
theorem dX4_ordinal_171 : decode cX4_ordinal 171 = .ok (.iconst 1, 1) := dk_4 (dk_at dksX4_ordinal_7 7 rfl rfl)
theorem dX4_ordinal_172 : decode cX4_ordinal 172 = .ok (.if_icmp .ne 15, 3) := dk_160 0 15 (dk_at dksX4_ordinal_7 8 rfl rfl)
theorem dX4_ordinal_175 : decode cX4_ordinal 175 = .ok (.aload_n 0, 1) := dk_42 (dk_at dksX4_ordinal_7 11 rfl rfl)
theorem dX4_ordinal_176 : decode cX4_ordinal 176 = .ok (.aload_n 0, 1) := dk_42 (dk_at dksX4_ordinal_7 12 rfl rfl)
theorem dX4_ordinal_177 : decode cX4_ordinal 177 = .ok (.getfield 101, 3) := dk_180 0 101 (dk_at dksX4_ordinal_7 13 rfl rfl)
theorem dX4_ordinal_180 : decode cX4_ordinal 180 = .ok (.iload 5, 2) := dk_21 5 (dk_at dksX4_ordinal_7 16 rfl rfl)
theorem dX4_ordinal_182 : decode cX4_ordinal 182 = .ok (.iaload, 1) := dk_46 (dk_at dksX4_ordinal_7 18 rfl rfl)
theorem dX4_ordinal_183 : decode cX4_ordinal 183 = .ok (.iconst 1, 1) := dk_4 (dk_at dksX4_ordinal_7 19 rfl rfl)
theorem dX4_ordinal_184 : decode cX4_ordinal 184 = .ok (.invokevirtual 256, 3) := dk_182 1 0 (dk_at dksX4_ordinal_7 20 rfl rfl)
theorem dX4_ordinal_187 : decode cX4_ordinal 187 = .ok (.aload_n 0, 1) := dk_42 (dk_at dksX4_ordinal_7 23 rfl rfl)
theorem dX4_ordinal_188 : decode cX4_ordinal 188 = .ok (.getfield 95, 3) := dk_180 0 95 (dk_at dksX4_ordinal_8 0 rfl rfl)
theorem dX4_ordinal_191 : decode cX4_ordinal 191 = .ok (.iconst 2, 1) := dk_5 (dk_at dksX4_ordinal_8 3 rfl rfl)
theorem dX4_ordinal_192 : decode cX4_ordinal 192 = .ok (.iconst 2, 1) := dk_5 (dk_at dksX4_ordinal_8 4 rfl rfl)
theorem dX4_ordinal_193 : decode cX4_ordinal 193 = .ok (.iload 4, 2) := dk_21 4 (dk_at dksX4_ordinal_8 5 rfl rfl)
theorem dX4_ordinal_195 : decode cX4_ordinal 195 = .ok (.imul, 1) := dk_104 (dk_at dksX4_ordinal_8 7 rfl rfl)
theorem dX4_ordinal_196 : decode cX4_ordinal 196 = .ok (.iadd, 1) := dk_96 (dk_at dksX4_ordinal_8 8 rfl rfl)
theorem dX4_ordinal_197 : decode cX4_ordinal 197 = .ok (.iaload, 1) := dk_46 (dk_at dksX4_ordinal_8 9 rfl rfl)
theorem dX4_ordinal_198 : decode cX4_ordinal 198 = .ok (.iload 5, 2) := dk_21 5 (dk_at dksX4_ordinal_8 10 rfl rfl)
theorem dX4_ordinal_200 : decode cX4_ordinal 200 = .ok (.ishr, 1) := dk_122 (dk_at dksX4_ordinal_8 12 rfl rfl)
theorem dX4_ordinal_201 : decode cX4_ordinal 201 = .ok (.iconst 1, 1) := dk_4 (dk_at dksX4_ordinal_8 13 rfl rfl)
theorem dX4_ordinal_202 : decode cX4_ordinal 202 = .ok (.iand, 1) := dk_126 (dk_at dksX4_ordinal_8 14 rfl rfl)
theorem dX4_ordinal_203 : decode cX4_ordinal 203 = .ok (.iconst 1, 1) := dk_4 (dk_at dksX4_ordinal_8 15 rfl rfl)
theorem dX4_ordinal_204 : decode cX4_ordinal 204 = .ok (.if_icmp .ne 15, 3) := dk_160 0 15 (dk_at dksX4_ordinal_8 16 rfl rfl)
theorem dX4_ordinal_207 : decode cX4_ordinal 207 = .ok (.aload_n 0, 1) := dk_42 (dk_at dksX4_ordinal_8 19 rfl rfl)
theorem dX4_ordinal_208 : decode cX4_ordinal 208 = .ok (.aload_n 0, 1) := dk_42 (dk_at dksX4_ordinal_8 20 rfl rfl)
theorem dX4_ordinal_209 : decode cX4_ordinal 209 = .ok (.getfield 101, 3) := dk_180 0 101 (dk_at dksX4_ordinal_8 21 rfl rfl)
theorem dX4_ordinal_212 : decode cX4_ordinal 212 = .ok (.iload 5, 2) := dk_21 5 (dk_at dksX4_ordinal_9 0 rfl rfl)
theorem dX4_ordinal_214 : decode cX4_ordinal 214 = .ok (.iaload, 1) := dk_46 (dk_at dksX4_ordinal_9 2 rfl rfl)
theorem dX4_ordinal_215 : decode cX4_ordinal 215 = .ok (.iconst 0, 1) := dk_3 (dk_at dksX4_ordinal_9 3 rfl rfl)
theorem dX4_ordinal_216 : decode cX4_ordinal 216 = .ok (.invokevirtual 256, 3) := dk_182 1 0 (dk_at dksX4_ordinal_9 4 rfl rfl)
theorem dX4_ordinal_219 : decode cX4_ordinal 219 = .ok (.iinc 5 1, 3) := dk_132 5 1 (dk_at dksX4_ordinal_9 7 rfl rfl)
theorem dX4_ordinal_222 : decode cX4_ordinal 222 = .ok (.goto (-118), 3) := dk_167 255 138 (dk_at dksX4_ordinal_9 10 rfl rfl)
theorem dX4_ordinal_225 : decode cX4_ordinal 225 = .ok (.aload_n 0, 1) := dk_42 (dk_at dksX4_ordinal_9 13 rfl rfl)
theorem dX4_ordinal_226 : decode cX4_ordinal 226 = .ok (.invokevirtual 267, 3) := dk_182 1 11 (dk_at dksX4_ordinal_9 14 rfl rfl)
theorem dX4_ordinal_229 : decode cX4_ordinal 229 = .ok (.istore_n 3, 1) := dk_62 (dk_at dksX4_ordinal_9 17 rfl rfl)
theorem dX4_ordinal_230 : decode cX4_ordinal 230 = .ok (.aload_n 0, 1) := dk_42 (dk_at dksX4_ordinal_9 18 rfl rfl)
theorem dX4_ordinal_231 : decode cX4_ordinal 231 = .ok (.getfield 101, 3) := dk_180 0 101 (dk_at dksX4_ordinal_9 19 rfl rfl)
theorem dX4_ordinal_234 : decode cX4_ordinal 234 = .ok (.iload 4, 2) := dk_21 4 (dk_at dksX4_ordinal_9 22 rfl rfl)
theorem dX4_ordinal_236 : decode cX4_ordinal 236 = .ok (.iload_n 3, 1) := dk_29 (dk_at dksX4_ordinal_10 0 rfl rfl)
theorem dX4_ordinal_237 : decode cX4_ordinal 237 = .ok (.iastore, 1) := dk_79 (dk_at dksX4_ordinal_10 1 rfl rfl)
theorem dX4_ordinal_238 : decode cX4_ordinal 238 = .ok (.iinc 4 1, 3) := dk_132 4 1 (dk_at dksX4_ordinal_10 2 rfl rfl)
theorem dX4_ordinal_241 : decode cX4_ordinal 241 = .ok (.goto (-161), 3) := dk_167 255 95 (dk_at dksX4_ordinal_10 5 rfl rfl)
theorem dX4_ordinal_244 : decode cX4_ordinal 244 = .ok (.aload_n 0, 1) := dk_42 (dk_at dksX4_ordinal_10 8 rfl rfl)
theorem dX4_ordinal_245 : decode cX4_ordinal 245 = .ok (.iload_n 3, 1) := dk_29 (dk_at dksX4_ordinal_10 9 rfl rfl)
theorem dX4_ordinal_246 : decode cX4_ordinal 246 = .ok (.invokevirtual 270, 3) := dk_182 1 14 (dk_at dksX4_ordinal_10 10 rfl rfl)
theorem dX4_ordinal_249 : decode cX4_ordinal 249 = .ok (.ireturn, 1) := dk_172 (dk_at dksX4_ordinal_10 13 rfl rfl)
abbrev cX4_multiply : ByteArray := prog_18_method_69_code
def yX4_multiply : MethodName := ⟨RX4, "multiply", "(III)I"⟩
def dkwX4_multiply_5 : List UInt8 := [19, 1, 42, 167, 0, 16, 42, 22, 7, 16, 40, 21, 6, 100, 121, 29, 182, 1, 94, 172]
abbrev dktX4_multiply_5 : List UInt8 := dkwX4_multiply_5 ++ []
def dkwX4_multiply_4 : List UInt8 := [22, 7, 20, 1, 90, 21, 6, 121, 148, 157, 0, 15, 22, 7, 20, 1, 92, 21, 6, 121, 148, 156, 0, 9]
abbrev dktX4_multiply_4 : List UInt8 := dkwX4_multiply_4 ++ dktX4_multiply_5
def dkwX4_multiply_3 : List UInt8 := [184, 0, 249, 96, 54, 6, 22, 7, 22, 9, 184, 0, 245, 133, 105, 55, 7, 21, 6, 16, 31, 163, 0, 27]
abbrev dktX4_multiply_3 : List UInt8 := dkwX4_multiply_3 ++ dktX4_multiply_4
def dkwX4_multiply_2 : List UInt8 := [184, 0, 249, 54, 6, 22, 4, 184, 0, 245, 133, 55, 7, 42, 28, 182, 1, 86, 55, 9, 21, 6, 22, 9]
abbrev dktX4_multiply_2 : List UInt8 := dkwX4_multiply_2 ++ dktX4_multiply_3
def dkwX4_multiply_1 : List UInt8 := [153, 0, 11, 42, 28, 182, 1, 82, 154, 0, 7, 19, 1, 85, 172, 42, 27, 182, 1, 86, 55, 4, 22, 4]
abbrev dktX4_multiply_1 : List UInt8 := dkwX4_multiply_1 ++ dktX4_multiply_2
def dkwX4_multiply_0 : List UInt8 := [42, 3, 181, 0, 146, 27, 28, 29, 184, 1, 69, 154, 0, 7, 19, 1, 37, 172, 42, 27, 182, 1, 82]
abbrev dktX4_multiply_0 : List UInt8 := dkwX4_multiply_0 ++ dktX4_multiply_1
theorem dksX4_multiply_0 : cX4_multiply.data.toList.drop 0 = dktX4_multiply_0 := by decide +kernel
theorem dksX4_multiply_1 : cX4_multiply.data.toList.drop 23 = dktX4_multiply_1 := dk_seg dksX4_multiply_0 23 rfl rfl
theorem dksX4_multiply_2 : cX4_multiply.data.toList.drop 47 = dktX4_multiply_2 := dk_seg dksX4_multiply_1 24 rfl rfl
theorem dksX4_multiply_3 : cX4_multiply.data.toList.drop 71 = dktX4_multiply_3 := dk_seg dksX4_multiply_2 24 rfl rfl
theorem dksX4_multiply_4 : cX4_multiply.data.toList.drop 95 = dktX4_multiply_4 := dk_seg dksX4_multiply_3 24 rfl rfl
theorem dksX4_multiply_5 : cX4_multiply.data.toList.drop 119 = dktX4_multiply_5 := dk_seg dksX4_multiply_4 24 rfl rfl
theorem dX4_multiply_0 : decode cX4_multiply 0 = .ok (.aload_n 0, 1) := dk_42 (dk_at dksX4_multiply_0 0 rfl rfl)
theorem dX4_multiply_1 : decode cX4_multiply 1 = .ok (.iconst 0, 1) := dk_3 (dk_at dksX4_multiply_0 1 rfl rfl)
theorem dX4_multiply_2 : decode cX4_multiply 2 = .ok (.putfield 146, 3) := dk_181 0 146 (dk_at dksX4_multiply_0 2 rfl rfl)
theorem dX4_multiply_5 : decode cX4_multiply 5 = .ok (.iload_n 1, 1) := dk_27 (dk_at dksX4_multiply_0 5 rfl rfl)
theorem dX4_multiply_6 : decode cX4_multiply 6 = .ok (.iload_n 2, 1) := dk_28 (dk_at dksX4_multiply_0 6 rfl rfl)
theorem dX4_multiply_7 : decode cX4_multiply 7 = .ok (.iload_n 3, 1) := dk_29 (dk_at dksX4_multiply_0 7 rfl rfl)
theorem dX4_multiply_8 : decode cX4_multiply 8 = .ok (.invokestatic 325, 3) := dk_184 1 69 (dk_at dksX4_multiply_0 8 rfl rfl)
theorem dX4_multiply_11 : decode cX4_multiply 11 = .ok (.ifCond .ne 7, 3) := dk_154 0 7 (dk_at dksX4_multiply_0 11 rfl rfl)
theorem dX4_multiply_14 : decode cX4_multiply 14 = .ok (.ldc_w 293, 3) := dk_19 1 37 (dk_at dksX4_multiply_0 14 rfl rfl)
theorem dX4_multiply_17 : decode cX4_multiply 17 = .ok (.ireturn, 1) := dk_172 (dk_at dksX4_multiply_0 17 rfl rfl)
theorem dX4_multiply_18 : decode cX4_multiply 18 = .ok (.aload_n 0, 1) := dk_42 (dk_at dksX4_multiply_0 18 rfl rfl)
theorem dX4_multiply_19 : decode cX4_multiply 19 = .ok (.iload_n 1, 1) := dk_27 (dk_at dksX4_multiply_0 19 rfl rfl)
theorem dX4_multiply_20 : decode cX4_multiply 20 = .ok (.invokevirtual 338, 3) := dk_182 1 82 (dk_at dksX4_multiply_0 20 rfl rfl)
theorem dX4_multiply_23 : decode cX4_multiply 23 = .ok (.ifCond .eq 11, 3) := dk_153 0 11 (dk_at dksX4_multiply_1 0 rfl rfl)
theorem dX4_multiply_26 : decode cX4_multiply 26 = .ok (.aload_n 0, 1) := dk_42 (dk_at dksX4_multiply_1 3 rfl rfl)
theorem dX4_multiply_27 : decode cX4_multiply 27 = .ok (.iload_n 2, 1) := dk_28 (dk_at dksX4_multiply_1 4 rfl rfl)
theorem dX4_multiply_28 : decode cX4_multiply 28 = .ok (.invokevirtual 338, 3) := dk_182 1 82 (dk_at dksX4_multiply_1 5 rfl rfl)
theorem dX4_multiply_31 : decode cX4_multiply 31 = .ok (.ifCond .ne 7, 3) := dk_154 0 7 (dk_at dksX4_multiply_1 8 rfl rfl)
theorem dX4_multiply_34 : decode cX4_multiply 34 = .ok (.ldc_w 341, 3) := dk_19 1 85 (dk_at dksX4_multiply_1 11 rfl rfl)
theorem dX4_multiply_37 : decode cX4_multiply 37 = .ok (.ireturn, 1) := dk_172 (dk_at dksX4_multiply_1 14 rfl rfl)
theorem dX4_multiply_38 : decode cX4_multiply 38 = .ok (.aload_n 0, 1) := dk_42 (dk_at dksX4_multiply_1 15 rfl rfl)
theorem dX4_multiply_39 : decode cX4_multiply 39 = .ok (.iload_n 1, 1) := dk_27 (dk_at dksX4_multiply_1 16 rfl rfl)
theorem dX4_multiply_40 : decode cX4_multiply 40 = .ok (.invokevirtual 342, 3) := dk_182 1 86 (dk_at dksX4_multiply_1 17 rfl rfl)
theorem dX4_multiply_43 : decode cX4_multiply 43 = .ok (.lstore 4, 2) := dk_55 4 (dk_at dksX4_multiply_1 20 rfl rfl)
theorem dX4_multiply_45 : decode cX4_multiply 45 = .ok (.lload 4, 2) := dk_22 4 (dk_at dksX4_multiply_1 22 rfl rfl)
theorem dX4_multiply_47 : decode cX4_multiply 47 = .ok (.invokestatic 249, 3) := dk_184 0 249 (dk_at dksX4_multiply_2 0 rfl rfl)
theorem dX4_multiply_50 : decode cX4_multiply 50 = .ok (.istore 6, 2) := dk_54 6 (dk_at dksX4_multiply_2 3 rfl rfl)
theorem dX4_multiply_52 : decode cX4_multiply 52 = .ok (.lload 4, 2) := dk_22 4 (dk_at dksX4_multiply_2 5 rfl rfl)
theorem dX4_multiply_54 : decode cX4_multiply 54 = .ok (.invokestatic 245, 3) := dk_184 0 245 (dk_at dksX4_multiply_2 7 rfl rfl)
theorem dX4_multiply_57 : decode cX4_multiply 57 = .ok (.i2l, 1) := dk_133 (dk_at dksX4_multiply_2 10 rfl rfl)
theorem dX4_multiply_58 : decode cX4_multiply 58 = .ok (.lstore 7, 2) := dk_55 7 (dk_at dksX4_multiply_2 11 rfl rfl)
theorem dX4_multiply_60 : decode cX4_multiply 60 = .ok (.aload_n 0, 1) := dk_42 (dk_at dksX4_multiply_2 13 rfl rfl)
theorem dX4_multiply_61 : decode cX4_multiply 61 = .ok (.iload_n 2, 1) := dk_28 (dk_at dksX4_multiply_2 14 rfl rfl)
theorem dX4_multiply_62 : decode cX4_multiply 62 = .ok (.invokevirtual 342, 3) := dk_182 1 86 (dk_at dksX4_multiply_2 15 rfl rfl)
theorem dX4_multiply_65 : decode cX4_multiply 65 = .ok (.lstore 9, 2) := dk_55 9 (dk_at dksX4_multiply_2 18 rfl rfl)
theorem dX4_multiply_67 : decode cX4_multiply 67 = .ok (.iload 6, 2) := dk_21 6 (dk_at dksX4_multiply_2 20 rfl rfl)
theorem dX4_multiply_69 : decode cX4_multiply 69 = .ok (.lload 9, 2) := dk_22 9 (dk_at dksX4_multiply_2 22 rfl rfl)
theorem dX4_multiply_71 : decode cX4_multiply 71 = .ok (.invokestatic 249, 3) := dk_184 0 249 (dk_at dksX4_multiply_3 0 rfl rfl)
theorem dX4_multiply_74 : decode cX4_multiply 74 = .ok (.iadd, 1) := dk_96 (dk_at dksX4_multiply_3 3 rfl rfl)
theorem dX4_multiply_75 : decode cX4_multiply 75 = .ok (.istore 6, 2) := dk_54 6 (dk_at dksX4_multiply_3 4 rfl rfl)
theorem dX4_multiply_77 : decode cX4_multiply 77 = .ok (.lload 7, 2) := dk_22 7 (dk_at dksX4_multiply_3 6 rfl rfl)
theorem dX4_multiply_79 : decode cX4_multiply 79 = .ok (.lload 9, 2) := dk_22 9 (dk_at dksX4_multiply_3 8 rfl rfl)
theorem dX4_multiply_81 : decode cX4_multiply 81 = .ok (.invokestatic 245, 3) := dk_184 0 245 (dk_at dksX4_multiply_3 10 rfl rfl)
theorem dX4_multiply_84 : decode cX4_multiply 84 = .ok (.i2l, 1) := dk_133 (dk_at dksX4_multiply_3 13 rfl rfl)
theorem dX4_multiply_85 : decode cX4_multiply 85 = .ok (.lmul, 1) := dk_105 (dk_at dksX4_multiply_3 14 rfl rfl)
theorem dX4_multiply_86 : decode cX4_multiply 86 = .ok (.lstore 7, 2) := dk_55 7 (dk_at dksX4_multiply_3 15 rfl rfl)
theorem dX4_multiply_88 : decode cX4_multiply 88 = .ok (.iload 6, 2) := dk_21 6 (dk_at dksX4_multiply_3 17 rfl rfl)
theorem dX4_multiply_90 : decode cX4_multiply 90 = .ok (.bipush 31, 2) := dk_16 31 (dk_at dksX4_multiply_3 19 rfl rfl)
theorem dX4_multiply_92 : decode cX4_multiply 92 = .ok (.if_icmp .gt 27, 3) := dk_163 0 27 (dk_at dksX4_multiply_3 21 rfl rfl)
theorem dX4_multiply_95 : decode cX4_multiply 95 = .ok (.lload 7, 2) := dk_22 7 (dk_at dksX4_multiply_4 0 rfl rfl)
theorem dX4_multiply_97 : decode cX4_multiply 97 = .ok (.ldc2_w 346, 3) := dk_20 1 90 (dk_at dksX4_multiply_4 2 rfl rfl)
theorem dX4_multiply_100 : decode cX4_multiply 100 = .ok (.iload 6, 2) := dk_21 6 (dk_at dksX4_multiply_4 5 rfl rfl)
theorem dX4_multiply_102 : decode cX4_multiply 102 = .ok (.lshl, 1) := dk_121 (dk_at dksX4_multiply_4 7 rfl rfl)
theorem dX4_multiply_103 : decode cX4_multiply 103 = .ok (.lcmp, 1) := dk_148 (dk_at dksX4_multiply_4 8 rfl rfl)
theorem dX4_multiply_104 : decode cX4_multiply 104 = .ok (.ifCond .gt 15, 3) := dk_157 0 15 (dk_at dksX4_multiply_4 9 rfl rfl)
theorem dX4_multiply_107 : decode cX4_multiply 107 = .ok (.lload 7, 2) := dk_22 7 (dk_at dksX4_multiply_4 12 rfl rfl)
theorem dX4_multiply_109 : decode cX4_multiply 109 = .ok (.ldc2_w 348, 3) := dk_20 1 92 (dk_at dksX4_multiply_4 14 rfl rfl)
theorem dX4_multiply_112 : decode cX4_multiply 112 = .ok (.iload 6, 2) := dk_21 6 (dk_at dksX4_multiply_4 17 rfl rfl)
theorem dX4_multiply_114 : decode cX4_multiply 114 = .ok (.lshl, 1) := dk_121 (dk_at dksX4_multiply_4 19 rfl rfl)
theorem dX4_multiply_115 : decode cX4_multiply 115 = .ok (.lcmp, 1) := dk_148 (dk_at dksX4_multiply_4 20 rfl rfl)
theorem dX4_multiply_116 : decode cX4_multiply 116 = .ok (.ifCond .ge 9, 3) := dk_156 0 9 (dk_at dksX4_multiply_4 21 rfl rfl)
theorem dX4_multiply_119 : decode cX4_multiply 119 = .ok (.ldc_w 298, 3) := dk_19 1 42 (dk_at dksX4_multiply_5 0 rfl rfl)
theorem dX4_multiply_122 : decode cX4_multiply 122 = .ok (.goto 16, 3) := dk_167 0 16 (dk_at dksX4_multiply_5 3 rfl rfl)
theorem dX4_multiply_125 : decode cX4_multiply 125 = .ok (.aload_n 0, 1) := dk_42 (dk_at dksX4_multiply_5 6 rfl rfl)
theorem dX4_multiply_126 : decode cX4_multiply 126 = .ok (.lload 7, 2) := dk_22 7 (dk_at dksX4_multiply_5 7 rfl rfl)
theorem dX4_multiply_128 : decode cX4_multiply 128 = .ok (.bipush 40, 2) := dk_16 40 (dk_at dksX4_multiply_5 9 rfl rfl)
theorem dX4_multiply_130 : decode cX4_multiply 130 = .ok (.iload 6, 2) := dk_21 6 (dk_at dksX4_multiply_5 11 rfl rfl)
theorem dX4_multiply_132 : decode cX4_multiply 132 = .ok (.isub, 1) := dk_100 (dk_at dksX4_multiply_5 13 rfl rfl)
theorem dX4_multiply_133 : decode cX4_multiply 133 = .ok (.lshl, 1) := dk_121 (dk_at dksX4_multiply_5 14 rfl rfl)
theorem dX4_multiply_134 : decode cX4_multiply 134 = .ok (.iload_n 3, 1) := dk_29 (dk_at dksX4_multiply_5 15 rfl rfl)
theorem dX4_multiply_135 : decode cX4_multiply 135 = .ok (.invokevirtual 350, 3) := dk_182 1 94 (dk_at dksX4_multiply_5 16 rfl rfl)
theorem dX4_multiply_138 : decode cX4_multiply 138 = .ok (.ireturn, 1) := dk_172 (dk_at dksX4_multiply_5 19 rfl rfl)
abbrev cX4_isNumber : ByteArray := prog_18_method_36_code
def yX4_isNumber : MethodName := ⟨RX4, "isNumber", "(I)Z"⟩
def dkwX4_isNumber_0 : List UInt8 := [42, 42, 180, 0, 9, 16, 65, 27, 104, 182, 0, 252, 172]
abbrev dktX4_isNumber_0 : List UInt8 := dkwX4_isNumber_0 ++ []
theorem dksX4_isNumber_0 : cX4_isNumber.data.toList.drop 0 = dktX4_isNumber_0 := by decide +kernel
theorem dX4_isNumber_0 : decode cX4_isNumber 0 = .ok (.aload_n 0, 1) := dk_42 (dk_at dksX4_isNumber_0 0 rfl rfl)
theorem dX4_isNumber_1 : decode cX4_isNumber 1 = .ok (.aload_n 0, 1) := dk_42 (dk_at dksX4_isNumber_0 1 rfl rfl)
theorem dX4_isNumber_2 : decode cX4_isNumber 2 = .ok (.getfield 9, 3) := dk_180 0 9 (dk_at dksX4_isNumber_0 2 rfl rfl)
theorem dX4_isNumber_5 : decode cX4_isNumber 5 = .ok (.bipush 65, 2) := dk_16 65 (dk_at dksX4_isNumber_0 5 rfl rfl)
theorem dX4_isNumber_7 : decode cX4_isNumber 7 = .ok (.iload_n 1, 1) := dk_27 (dk_at dksX4_isNumber_0 7 rfl rfl)
theorem dX4_isNumber_8 : decode cX4_isNumber 8 = .ok (.imul, 1) := dk_104 (dk_at dksX4_isNumber_0 8 rfl rfl)
theorem dX4_isNumber_9 : decode cX4_isNumber 9 = .ok (.invokevirtual 252, 3) := dk_182 0 252 (dk_at dksX4_isNumber_0 9 rfl rfl)
theorem dX4_isNumber_12 : decode cX4_isNumber 12 = .ok (.ireturn, 1) := dk_172 (dk_at dksX4_isNumber_0 12 rfl rfl)
abbrev cX4_findValues : ByteArray := prog_18_method_31_code
def yX4_findValues : MethodName := ⟨RX4, "findValues", "([II)Z"⟩
def dkwX4_findValues_11 : List UInt8 := [167, 255, 5, 42, 180, 0, 89, 43, 28, 46, 4, 100, 51, 172]
abbrev dktX4_findValues_11 : List UInt8 := dkwX4_findValues_11 ++ []
def dkwX4_findValues_10 : List UInt8 := [184, 0, 242, 47, 42, 180, 0, 85, 21, 5, 184, 0, 242, 47, 97, 20, 0, 237, 109, 80, 132, 3, 1]
abbrev dktX4_findValues_10 : List UInt8 := dkwX4_findValues_10 ++ dktX4_findValues_11
def dkwX4_findValues_9 : List UInt8 := [180, 0, 85, 21, 5, 184, 0, 242, 47, 20, 0, 235, 101, 167, 0, 28, 42, 180, 0, 85, 21, 4]
abbrev dktX4_findValues_9 : List UInt8 := dkwX4_findValues_9 ++ dktX4_findValues_10
def dkwX4_findValues_8 : List UInt8 := [180, 0, 85, 21, 4, 184, 0, 242, 47, 20, 0, 235, 97, 167, 0, 50, 21, 4, 154, 0, 20, 42]
abbrev dktX4_findValues_8 : List UInt8 := dkwX4_findValues_8 ++ dktX4_findValues_9
def dkwX4_findValues_7 : List UInt8 := [180, 0, 85, 29, 21, 4, 154, 0, 12, 21, 5, 154, 0, 7, 9, 167, 0, 72, 21, 5, 154, 0, 20, 42]
abbrev dktX4_findValues_7 : List UInt8 := dkwX4_findValues_7 ++ dktX4_findValues_8
def dkwX4_findValues_6 : List UInt8 := [156, 0, 7, 4, 167, 0, 4, 3, 54, 6, 42, 180, 0, 89, 29, 21, 6, 84, 21, 6, 153, 0, 92, 42]
abbrev dktX4_findValues_6 : List UInt8 := dkwX4_findValues_6 ++ dktX4_findValues_7
def dkwX4_findValues_5 : List UInt8 := [153, 0, 27, 42, 180, 0, 85, 21, 4, 184, 0, 242, 47, 42, 180, 0, 85, 21, 5, 184, 0, 242, 47, 148]
abbrev dktX4_findValues_5 : List UInt8 := dkwX4_findValues_5 ++ dktX4_findValues_6
def dkwX4_findValues_4 : List UInt8 := [153, 0, 7, 4, 167, 0, 4, 3, 54, 6, 21, 6, 153, 0, 41, 21, 4, 153, 0, 32, 21, 5]
abbrev dktX4_findValues_4 : List UInt8 := dkwX4_findValues_4 ++ dktX4_findValues_5
def dkwX4_findValues_3 : List UInt8 := [184, 0, 242, 51, 153, 0, 25, 21, 5, 153, 0, 16, 42, 180, 0, 89, 21, 5, 184, 0, 242, 51]
abbrev dktX4_findValues_3 : List UInt8 := dkwX4_findValues_3 ++ dktX4_findValues_4
def dkwX4_findValues_2 : List UInt8 := [167, 0, 4, 3, 54, 6, 21, 6, 153, 0, 43, 21, 4, 153, 0, 16, 42, 180, 0, 89, 21, 4]
abbrev dktX4_findValues_2 : List UInt8 := dkwX4_findValues_2 ++ dktX4_findValues_3
def dkwX4_findValues_1 : List UInt8 := [5, 29, 104, 96, 46, 54, 5, 21, 4, 184, 0, 239, 153, 0, 15, 21, 5, 184, 0, 239, 153, 0, 7, 4]
abbrev dktX4_findValues_1 : List UInt8 := dkwX4_findValues_1 ++ dktX4_findValues_2
def dkwX4_findValues_0 : List UInt8 := [3, 62, 29, 43, 28, 46, 162, 0, 250, 43, 28, 4, 96, 5, 29, 104, 96, 46, 54, 4, 43, 28, 5, 96]
abbrev dktX4_findValues_0 : List UInt8 := dkwX4_findValues_0 ++ dktX4_findValues_1
theorem dksX4_findValues_0 : cX4_findValues.data.toList.drop 0 = dktX4_findValues_0 := by decide +kernel
theorem dksX4_findValues_1 : cX4_findValues.data.toList.drop 24 = dktX4_findValues_1 := dk_seg dksX4_findValues_0 24 rfl rfl
theorem dksX4_findValues_2 : cX4_findValues.data.toList.drop 48 = dktX4_findValues_2 := dk_seg dksX4_findValues_1 24 rfl rfl
theorem dksX4_findValues_3 : cX4_findValues.data.toList.drop 70 = dktX4_findValues_3 := dk_seg dksX4_findValues_2 22 rfl rfl
theorem dksX4_findValues_4 : cX4_findValues.data.toList.drop 92 = dktX4_findValues_4 := dk_seg dksX4_findValues_3 22 rfl rfl
theorem dksX4_findValues_5 : cX4_findValues.data.toList.drop 114 = dktX4_findValues_5 := dk_seg dksX4_findValues_4 22 rfl rfl
theorem dksX4_findValues_6 : cX4_findValues.data.toList.drop 138 = dktX4_findValues_6 := dk_seg dksX4_findValues_5 24 rfl rfl
theorem dksX4_findValues_7 : cX4_findValues.data.toList.drop 162 = dktX4_findValues_7 := dk_seg dksX4_findValues_6 24 rfl rfl
theorem dksX4_findValues_8 : cX4_findValues.data.toList.drop 186 = dktX4_findValues_8 := dk_seg dksX4_findValues_7 24 rfl rfl
theorem dksX4_findValues_9 : cX4_findValues.data.toList.drop 208 = dktX4_findValues_9 := dk_seg dksX4_findValues_8 22 rfl rfl
theorem dksX4_findValues_10 : cX4_findValues.data.toList.drop 230 = dktX4_findValues_10 := dk_seg dksX4_findValues_9 22 rfl rfl
theorem dksX4_findValues_11 : cX4_findValues.data.toList.drop 253 = dktX4_findValues_11 := dk_seg dksX4_findValues_10 23 rfl rfl
theorem dX4_findValues_0 : decode cX4_findValues 0 = .ok (.iconst 0, 1) := dk_3 (dk_at dksX4_findValues_0 0 rfl rfl)
theorem dX4_findValues_1 : decode cX4_findValues 1 = .ok (.istore_n 3, 1) := dk_62 (dk_at dksX4_findValues_0 1 rfl rfl)
theorem dX4_findValues_2 : decode cX4_findValues 2 = .ok (.iload_n 3, 1) := dk_29 (dk_at dksX4_findValues_0 2 rfl rfl)
theorem dX4_findValues_3 : decode cX4_findValues 3 = .ok (.aload_n 1, 1) := dk_43 (dk_at dksX4_findValues_0 3 rfl rfl)
theorem dX4_findValues_4 : decode cX4_findValues 4 = .ok (.iload_n 2, 1) := dk_28 (dk_at dksX4_findValues_0 4 rfl rfl)
theorem dX4_findValues_5 : decode cX4_findValues 5 = .ok (.iaload, 1) := dk_46 (dk_at dksX4_findValues_0 5 rfl rfl)
theorem dX4_findValues_6 : decode cX4_findValues 6 = .ok (.if_icmp .ge 250, 3) := dk_162 0 250 (dk_at dksX4_findValues_0 6 rfl rfl)
theorem dX4_findValues_9 : decode cX4_findValues 9 = .ok (.aload_n 1, 1) := dk_43 (dk_at dksX4_findValues_0 9 rfl rfl)
theorem dX4_findValues_10 : decode cX4_findValues 10 = .ok (.iload_n 2, 1) := dk_28 (dk_at dksX4_findValues_0 10 rfl rfl)
theorem dX4_findValues_11 : decode cX4_findValues 11 = .ok (.iconst 1, 1) := dk_4 (dk_at dksX4_findValues_0 11 rfl rfl)
theorem dX4_findValues_12 : decode cX4_findValues 12 = .ok (.iadd, 1) := dk_96 (dk_at dksX4_findValues_0 12 rfl rfl)
theorem dX4_findValues_13 : decode cX4_findValues 13 = .ok (.iconst 2, 1) := dk_5 (dk_at dksX4_findValues_0 13 rfl rfl)
theorem dX4_findValues_14 : decode cX4_findValues 14 = .ok (.iload_n 3, 1) := dk_29 (dk_at dksX4_findValues_0 14 rfl rfl)
theorem dX4_findValues_15 : decode cX4_findValues 15 = .ok (.imul, 1) := dk_104 (dk_at dksX4_findValues_0 15 rfl rfl)
theorem dX4_findValues_16 : decode cX4_findValues 16 = .ok (.iadd, 1) := dk_96 (dk_at dksX4_findValues_0 16 rfl rfl)
theorem dX4_findValues_17 : decode cX4_findValues 17 = .ok (.iaload, 1) := dk_46 (dk_at dksX4_findValues_0 17 rfl rfl)
theorem dX4_findValues_18 : decode cX4_findValues 18 = .ok (.istore 4, 2) := dk_54 4 (dk_at dksX4_findValues_0 18 rfl rfl)
theorem dX4_findValues_20 : decode cX4_findValues 20 = .ok (.aload_n 1, 1) := dk_43 (dk_at dksX4_findValues_0 20 rfl rfl)
theorem dX4_findValues_21 : decode cX4_findValues 21 = .ok (.iload_n 2, 1) := dk_28 (dk_at dksX4_findValues_0 21 rfl rfl)
theorem dX4_findValues_22 : decode cX4_findValues 22 = .ok (.iconst 2, 1) := dk_5 (dk_at dksX4_findValues_0 22 rfl rfl)
theorem dX4_findValues_23 : decode cX4_findValues 23 = .ok (.iadd, 1) := dk_96 (dk_at dksX4_findValues_0 23 rfl rfl)
theorem dX4_findValues_24 : decode cX4_findValues 24 = .ok (.iconst 2, 1) := dk_5 (dk_at dksX4_findValues_1 0 rfl rfl)
theorem dX4_findValues_25 : decode cX4_findValues 25 = .ok (.iload_n 3, 1) := dk_29 (dk_at dksX4_findValues_1 1 rfl rfl)
theorem dX4_findValues_26 : decode cX4_findValues 26 = .ok (.imul, 1) := dk_104 (dk_at dksX4_findValues_1 2 rfl rfl)
theorem dX4_findValues_27 : decode cX4_findValues 27 = .ok (.iadd, 1) := dk_96 (dk_at dksX4_findValues_1 3 rfl rfl)
theorem dX4_findValues_28 : decode cX4_findValues 28 = .ok (.iaload, 1) := dk_46 (dk_at dksX4_findValues_1 4 rfl rfl)
theorem dX4_findValues_29 : decode cX4_findValues 29 = .ok (.istore 5, 2) := dk_54 5 (dk_at dksX4_findValues_1 5 rfl rfl)
theorem dX4_findValues_31 : decode cX4_findValues 31 = .ok (.iload 4, 2) := dk_21 4 (dk_at dksX4_findValues_1 7 rfl rfl)
theorem dX4_findValues_33 : decode cX4_findValues 33 = .ok (.invokestatic 239, 3) := dk_184 0 239 (dk_at dksX4_findValues_1 9 rfl rfl)
theorem dX4_findValues_36 : decode cX4_findValues 36 = .ok (.ifCond .eq 15, 3) := dk_153 0 15 (dk_at dksX4_findValues_1 12 rfl rfl)
theorem dX4_findValues_39 : decode cX4_findValues 39 = .ok (.iload 5, 2) := dk_21 5 (dk_at dksX4_findValues_1 15 rfl rfl)
theorem dX4_findValues_41 : decode cX4_findValues 41 = .ok (.invokestatic 239, 3) := dk_184 0 239 (dk_at dksX4_findValues_1 17 rfl rfl)
theorem dX4_findValues_44 : decode cX4_findValues 44 = .ok (.ifCond .eq 7, 3) := dk_153 0 7 (dk_at dksX4_findValues_1 20 rfl rfl)
theorem dX4_findValues_47 : decode cX4_findValues 47 = .ok (.iconst 1, 1) := dk_4 (dk_at dksX4_findValues_1 23 rfl rfl)
theorem dX4_findValues_48 : decode cX4_findValues 48 = .ok (.goto 4, 3) := dk_167 0 4 (dk_at dksX4_findValues_2 0 rfl rfl)
theorem dX4_findValues_51 : decode cX4_findValues 51 = .ok (.iconst 0, 1) := dk_3 (dk_at dksX4_findValues_2 3 rfl rfl)
theorem dX4_findValues_52 : decode cX4_findValues 52 = .ok (.istore 6, 2) := dk_54 6 (dk_at dksX4_findValues_2 4 rfl rfl)
theorem dX4_findValues_54 : decode cX4_findValues 54 = .ok (.iload 6, 2) := dk_21 6 (dk_at dksX4_findValues_2 6 rfl rfl)
theorem dX4_findValues_56 : decode cX4_findValues 56 = .ok (.ifCond .eq 43, 3) := dk_153 0 43 (dk_at dksX4_findValues_2 8 rfl rfl)
theorem dX4_findValues_59 : decode cX4_findValues 59 = .ok (.iload 4, 2) := dk_21 4 (dk_at dksX4_findValues_2 11 rfl rfl)
theorem dX4_findValues_61 : decode cX4_findValues 61 = .ok (.ifCond .eq 16, 3) := dk_153 0 16 (dk_at dksX4_findValues_2 13 rfl rfl)
theorem dX4_findValues_64 : decode cX4_findValues 64 = .ok (.aload_n 0, 1) := dk_42 (dk_at dksX4_findValues_2 16 rfl rfl)
theorem dX4_findValues_65 : decode cX4_findValues 65 = .ok (.getfield 89, 3) := dk_180 0 89 (dk_at dksX4_findValues_2 17 rfl rfl)
theorem dX4_findValues_68 : decode cX4_findValues 68 = .ok (.iload 4, 2) := dk_21 4 (dk_at dksX4_findValues_2 20 rfl rfl)
theorem dX4_findValues_70 : decode cX4_findValues 70 = .ok (.invokestatic 242, 3) := dk_184 0 242 (dk_at dksX4_findValues_3 0 rfl rfl)
theorem dX4_findValues_73 : decode cX4_findValues 73 = .ok (.baload, 1) := dk_51 (dk_at dksX4_findValues_3 3 rfl rfl)
theorem dX4_findValues_74 : decode cX4_findValues 74 = .ok (.ifCond .eq 25, 3) := dk_153 0 25 (dk_at dksX4_findValues_3 4 rfl rfl)
theorem dX4_findValues_77 : decode cX4_findValues 77 = .ok (.iload 5, 2) := dk_21 5 (dk_at dksX4_findValues_3 7 rfl rfl)
theorem dX4_findValues_79 : decode cX4_findValues 79 = .ok (.ifCond .eq 16, 3) := dk_153 0 16 (dk_at dksX4_findValues_3 9 rfl rfl)
theorem dX4_findValues_82 : decode cX4_findValues 82 = .ok (.aload_n 0, 1) := dk_42 (dk_at dksX4_findValues_3 12 rfl rfl)
theorem dX4_findValues_83 : decode cX4_findValues 83 = .ok (.getfield 89, 3) := dk_180 0 89 (dk_at dksX4_findValues_3 13 rfl rfl)
theorem dX4_findValues_86 : decode cX4_findValues 86 = .ok (.iload 5, 2) := dk_21 5 (dk_at dksX4_findValues_3 16 rfl rfl)
theorem dX4_findValues_88 : decode cX4_findValues 88 = .ok (.invokestatic 242, 3) := dk_184 0 242 (dk_at dksX4_findValues_3 18 rfl rfl)
theorem dX4_findValues_91 : decode cX4_findValues 91 = .ok (.baload, 1) := dk_51 (dk_at dksX4_findValues_3 21 rfl rfl)
theorem dX4_findValues_92 : decode cX4_findValues 92 = .ok (.ifCond .eq 7, 3) := dk_153 0 7 (dk_at dksX4_findValues_4 0 rfl rfl)
theorem dX4_findValues_95 : decode cX4_findValues 95 = .ok (.iconst 1, 1) := dk_4 (dk_at dksX4_findValues_4 3 rfl rfl)
theorem dX4_findValues_96 : decode cX4_findValues 96 = .ok (.goto 4, 3) := dk_167 0 4 (dk_at dksX4_findValues_4 4 rfl rfl)
theorem dX4_findValues_99 : decode cX4_findValues 99 = .ok (.iconst 0, 1) := dk_3 (dk_at dksX4_findValues_4 7 rfl rfl)
theorem dX4_findValues_100 : decode cX4_findValues 100 = .ok (.istore 6, 2) := dk_54 6 (dk_at dksX4_findValues_4 8 rfl rfl)
theorem dX4_findValues_102 : decode cX4_findValues 102 = .ok (.iload 6, 2) := dk_21 6 (dk_at dksX4_findValues_4 10 rfl rfl)
theorem dX4_findValues_104 : decode cX4_findValues 104 = .ok (.ifCond .eq 41, 3) := dk_153 0 41 (dk_at dksX4_findValues_4 12 rfl rfl)
theorem dX4_findValues_107 : decode cX4_findValues 107 = .ok (.iload 4, 2) := dk_21 4 (dk_at dksX4_findValues_4 15 rfl rfl)
theorem dX4_findValues_109 : decode cX4_findValues 109 = .ok (.ifCond .eq 32, 3) := dk_153 0 32 (dk_at dksX4_findValues_4 17 rfl rfl)
theorem dX4_findValues_112 : decode cX4_findValues 112 = .ok (.iload 5, 2) := dk_21 5 (dk_at dksX4_findValues_4 20 rfl rfl)
theorem dX4_findValues_114 : decode cX4_findValues 114 = .ok (.ifCond .eq 27, 3) := dk_153 0 27 (dk_at dksX4_findValues_5 0 rfl rfl)
theorem dX4_findValues_117 : decode cX4_findValues 117 = .ok (.aload_n 0, 1) := dk_42 (dk_at dksX4_findValues_5 3 rfl rfl)
theorem dX4_findValues_118 : decode cX4_findValues 118 = .ok (.getfield 85, 3) := dk_180 0 85 (dk_at dksX4_findValues_5 4 rfl rfl)
theorem dX4_findValues_121 : decode cX4_findValues 121 = .ok (.iload 4, 2) := dk_21 4 (dk_at dksX4_findValues_5 7 rfl rfl)
theorem dX4_findValues_123 : decode cX4_findValues 123 = .ok (.invokestatic 242, 3) := dk_184 0 242 (dk_at dksX4_findValues_5 9 rfl rfl)
theorem dX4_findValues_126 : decode cX4_findValues 126 = .ok (.laload, 1) := dk_47 (dk_at dksX4_findValues_5 12 rfl rfl)
theorem dX4_findValues_127 : decode cX4_findValues 127 = .ok (.aload_n 0, 1) := dk_42 (dk_at dksX4_findValues_5 13 rfl rfl)
theorem dX4_findValues_128 : decode cX4_findValues 128 = .ok (.getfield 85, 3) := dk_180 0 85 (dk_at dksX4_findValues_5 14 rfl rfl)
theorem dX4_findValues_131 : decode cX4_findValues 131 = .ok (.iload 5, 2) := dk_21 5 (dk_at dksX4_findValues_5 17 rfl rfl)
theorem dX4_findValues_133 : decode cX4_findValues 133 = .ok (.invokestatic 242, 3) := dk_184 0 242 (dk_at dksX4_findValues_5 19 rfl rfl)
theorem dX4_findValues_136 : decode cX4_findValues 136 = .ok (.laload, 1) := dk_47 (dk_at dksX4_findValues_5 22 rfl rfl)
theorem dX4_findValues_137 : decode cX4_findValues 137 = .ok (.lcmp, 1) := dk_148 (dk_at dksX4_findValues_5 23 rfl rfl)
theorem dX4_findValues_138 : decode cX4_findValues 138 = .ok (.ifCond .ge 7, 3) := dk_156 0 7 (dk_at dksX4_findValues_6 0 rfl rfl)
theorem dX4_findValues_141 : decode cX4_findValues 141 = .ok (.iconst 1, 1) := dk_4 (dk_at dksX4_findValues_6 3 rfl rfl)
theorem dX4_findValues_142 : decode cX4_findValues 142 = .ok (.goto 4, 3) := dk_167 0 4 (dk_at dksX4_findValues_6 4 rfl rfl)
theorem dX4_findValues_145 : decode cX4_findValues 145 = .ok (.iconst 0, 1) := dk_3 (dk_at dksX4_findValues_6 7 rfl rfl)
theorem dX4_findValues_146 : decode cX4_findValues 146 = .ok (.istore 6, 2) := dk_54 6 (dk_at dksX4_findValues_6 8 rfl rfl)
theorem dX4_findValues_148 : decode cX4_findValues 148 = .ok (.aload_n 0, 1) := dk_42 (dk_at dksX4_findValues_6 10 rfl rfl)
theorem dX4_findValues_149 : decode cX4_findValues 149 = .ok (.getfield 89, 3) := dk_180 0 89 (dk_at dksX4_findValues_6 11 rfl rfl)
theorem dX4_findValues_152 : decode cX4_findValues 152 = .ok (.iload_n 3, 1) := dk_29 (dk_at dksX4_findValues_6 14 rfl rfl)
theorem dX4_findValues_153 : decode cX4_findValues 153 = .ok (.iload 6, 2) := dk_21 6 (dk_at dksX4_findValues_6 15 rfl rfl)
theorem dX4_findValues_155 : decode cX4_findValues 155 = .ok (.bastore, 1) := dk_84 (dk_at dksX4_findValues_6 17 rfl rfl)
theorem dX4_findValues_156 : decode cX4_findValues 156 = .ok (.iload 6, 2) := dk_21 6 (dk_at dksX4_findValues_6 18 rfl rfl)
theorem dX4_findValues_158 : decode cX4_findValues 158 = .ok (.ifCond .eq 92, 3) := dk_153 0 92 (dk_at dksX4_findValues_6 20 rfl rfl)
theorem dX4_findValues_161 : decode cX4_findValues 161 = .ok (.aload_n 0, 1) := dk_42 (dk_at dksX4_findValues_6 23 rfl rfl)
theorem dX4_findValues_162 : decode cX4_findValues 162 = .ok (.getfield 85, 3) := dk_180 0 85 (dk_at dksX4_findValues_7 0 rfl rfl)
theorem dX4_findValues_165 : decode cX4_findValues 165 = .ok (.iload_n 3, 1) := dk_29 (dk_at dksX4_findValues_7 3 rfl rfl)
theorem dX4_findValues_166 : decode cX4_findValues 166 = .ok (.iload 4, 2) := dk_21 4 (dk_at dksX4_findValues_7 4 rfl rfl)
theorem dX4_findValues_168 : decode cX4_findValues 168 = .ok (.ifCond .ne 12, 3) := dk_154 0 12 (dk_at dksX4_findValues_7 6 rfl rfl)
theorem dX4_findValues_171 : decode cX4_findValues 171 = .ok (.iload 5, 2) := dk_21 5 (dk_at dksX4_findValues_7 9 rfl rfl)
theorem dX4_findValues_173 : decode cX4_findValues 173 = .ok (.ifCond .ne 7, 3) := dk_154 0 7 (dk_at dksX4_findValues_7 11 rfl rfl)
theorem dX4_findValues_176 : decode cX4_findValues 176 = .ok (.lconst 0, 1) := dk_9 (dk_at dksX4_findValues_7 14 rfl rfl)
theorem dX4_findValues_177 : decode cX4_findValues 177 = .ok (.goto 72, 3) := dk_167 0 72 (dk_at dksX4_findValues_7 15 rfl rfl)
theorem dX4_findValues_180 : decode cX4_findValues 180 = .ok (.iload 5, 2) := dk_21 5 (dk_at dksX4_findValues_7 18 rfl rfl)
theorem dX4_findValues_182 : decode cX4_findValues 182 = .ok (.ifCond .ne 20, 3) := dk_154 0 20 (dk_at dksX4_findValues_7 20 rfl rfl)
theorem dX4_findValues_185 : decode cX4_findValues 185 = .ok (.aload_n 0, 1) := dk_42 (dk_at dksX4_findValues_7 23 rfl rfl)
theorem dX4_findValues_186 : decode cX4_findValues 186 = .ok (.getfield 85, 3) := dk_180 0 85 (dk_at dksX4_findValues_8 0 rfl rfl)
theorem dX4_findValues_189 : decode cX4_findValues 189 = .ok (.iload 4, 2) := dk_21 4 (dk_at dksX4_findValues_8 3 rfl rfl)
theorem dX4_findValues_191 : decode cX4_findValues 191 = .ok (.invokestatic 242, 3) := dk_184 0 242 (dk_at dksX4_findValues_8 5 rfl rfl)
theorem dX4_findValues_194 : decode cX4_findValues 194 = .ok (.laload, 1) := dk_47 (dk_at dksX4_findValues_8 8 rfl rfl)
theorem dX4_findValues_195 : decode cX4_findValues 195 = .ok (.ldc2_w 235, 3) := dk_20 0 235 (dk_at dksX4_findValues_8 9 rfl rfl)
theorem dX4_findValues_198 : decode cX4_findValues 198 = .ok (.ladd, 1) := dk_97 (dk_at dksX4_findValues_8 12 rfl rfl)
theorem dX4_findValues_199 : decode cX4_findValues 199 = .ok (.goto 50, 3) := dk_167 0 50 (dk_at dksX4_findValues_8 13 rfl rfl)
theorem dX4_findValues_202 : decode cX4_findValues 202 = .ok (.iload 4, 2) := dk_21 4 (dk_at dksX4_findValues_8 16 rfl rfl)
theorem dX4_findValues_204 : decode cX4_findValues 204 = .ok (.ifCond .ne 20, 3) := dk_154 0 20 (dk_at dksX4_findValues_8 18 rfl rfl)
theorem dX4_findValues_207 : decode cX4_findValues 207 = .ok (.aload_n 0, 1) := dk_42 (dk_at dksX4_findValues_8 21 rfl rfl)
theorem dX4_findValues_208 : decode cX4_findValues 208 = .ok (.getfield 85, 3) := dk_180 0 85 (dk_at dksX4_findValues_9 0 rfl rfl)
theorem dX4_findValues_211 : decode cX4_findValues 211 = .ok (.iload 5, 2) := dk_21 5 (dk_at dksX4_findValues_9 3 rfl rfl)
theorem dX4_findValues_213 : decode cX4_findValues 213 = .ok (.invokestatic 242, 3) := dk_184 0 242 (dk_at dksX4_findValues_9 5 rfl rfl)
theorem dX4_findValues_216 : decode cX4_findValues 216 = .ok (.laload, 1) := dk_47 (dk_at dksX4_findValues_9 8 rfl rfl)
theorem dX4_findValues_217 : decode cX4_findValues 217 = .ok (.ldc2_w 235, 3) := dk_20 0 235 (dk_at dksX4_findValues_9 9 rfl rfl)
theorem dX4_findValues_220 : decode cX4_findValues 220 = .ok (.lsub, 1) := dk_101 (dk_at dksX4_findValues_9 12 rfl rfl)
theorem dX4_findValues_221 : decode cX4_findValues 221 = .ok (.goto 28, 3) := dk_167 0 28 (dk_at dksX4_findValues_9 13 rfl rfl)
theorem dX4_findValues_224 : decode cX4_findValues 224 = .ok (.aload_n 0, 1) := dk_42 (dk_at dksX4_findValues_9 16 rfl rfl)
theorem dX4_findValues_225 : decode cX4_findValues 225 = .ok (.getfield 85, 3) := dk_180 0 85 (dk_at dksX4_findValues_9 17 rfl rfl)
theorem dX4_findValues_228 : decode cX4_findValues 228 = .ok (.iload 4, 2) := dk_21 4 (dk_at dksX4_findValues_9 20 rfl rfl)
theorem dX4_findValues_230 : decode cX4_findValues 230 = .ok (.invokestatic 242, 3) := dk_184 0 242 (dk_at dksX4_findValues_10 0 rfl rfl)
theorem dX4_findValues_233 : decode cX4_findValues 233 = .ok (.laload, 1) := dk_47 (dk_at dksX4_findValues_10 3 rfl rfl)
theorem dX4_findValues_234 : decode cX4_findValues 234 = .ok (.aload_n 0, 1) := dk_42 (dk_at dksX4_findValues_10 4 rfl rfl)
theorem dX4_findValues_235 : decode cX4_findValues 235 = .ok (.getfield 85, 3) := dk_180 0 85 (dk_at dksX4_findValues_10 5 rfl rfl)
theorem dX4_findValues_238 : decode cX4_findValues 238 = .ok (.iload 5, 2) := dk_21 5 (dk_at dksX4_findValues_10 8 rfl rfl)
theorem dX4_findValues_240 : decode cX4_findValues 240 = .ok (.invokestatic 242, 3) := dk_184 0 242 (dk_at dksX4_findValues_10 10 rfl rfl)
theorem dX4_findValues_243 : decode cX4_findValues 243 = .ok (.laload, 1) := dk_47 (dk_at dksX4_findValues_10 13 rfl rfl)
theorem dX4_findValues_244 : decode cX4_findValues 244 = .ok (.ladd, 1) := dk_97 (dk_at dksX4_findValues_10 14 rfl rfl)
theorem dX4_findValues_245 : decode cX4_findValues 245 = .ok (.ldc2_w 237, 3) := dk_20 0 237 (dk_at dksX4_findValues_10 15 rfl rfl)
theorem dX4_findValues_248 : decode cX4_findValues 248 = .ok (.ldiv, 1) := dk_109 (dk_at dksX4_findValues_10 18 rfl rfl)
theorem dX4_findValues_249 : decode cX4_findValues 249 = .ok (.lastore, 1) := dk_80 (dk_at dksX4_findValues_10 19 rfl rfl)
theorem dX4_findValues_250 : decode cX4_findValues 250 = .ok (.iinc 3 1, 3) := dk_132 3 1 (dk_at dksX4_findValues_10 20 rfl rfl)
theorem dX4_findValues_253 : decode cX4_findValues 253 = .ok (.goto (-251), 3) := dk_167 255 5 (dk_at dksX4_findValues_11 0 rfl rfl)
theorem dX4_findValues_256 : decode cX4_findValues 256 = .ok (.aload_n 0, 1) := dk_42 (dk_at dksX4_findValues_11 3 rfl rfl)
theorem dX4_findValues_257 : decode cX4_findValues 257 = .ok (.getfield 89, 3) := dk_180 0 89 (dk_at dksX4_findValues_11 4 rfl rfl)
theorem dX4_findValues_260 : decode cX4_findValues 260 = .ok (.aload_n 1, 1) := dk_43 (dk_at dksX4_findValues_11 7 rfl rfl)
theorem dX4_findValues_261 : decode cX4_findValues 261 = .ok (.iload_n 2, 1) := dk_28 (dk_at dksX4_findValues_11 8 rfl rfl)
theorem dX4_findValues_262 : decode cX4_findValues 262 = .ok (.iaload, 1) := dk_46 (dk_at dksX4_findValues_11 9 rfl rfl)
theorem dX4_findValues_263 : decode cX4_findValues 263 = .ok (.iconst 1, 1) := dk_4 (dk_at dksX4_findValues_11 10 rfl rfl)
theorem dX4_findValues_264 : decode cX4_findValues 264 = .ok (.isub, 1) := dk_100 (dk_at dksX4_findValues_11 11 rfl rfl)
theorem dX4_findValues_265 : decode cX4_findValues 265 = .ok (.baload, 1) := dk_51 (dk_at dksX4_findValues_11 12 rfl rfl)
theorem dX4_findValues_266 : decode cX4_findValues 266 = .ok (.ireturn, 1) := dk_172 (dk_at dksX4_findValues_11 13 rfl rfl)
abbrev cX4_isSingle : ByteArray := prog_18_method_30_code
def yX4_isSingle : MethodName := ⟨RX4, "isSingle", "(I)Z"⟩
def dkwX4_isSingle_0 : List UInt8 := [26, 26, 4, 100, 126, 154, 0, 7, 4, 167, 0, 4, 3, 172]
abbrev dktX4_isSingle_0 : List UInt8 := dkwX4_isSingle_0 ++ []
theorem dksX4_isSingle_0 : cX4_isSingle.data.toList.drop 0 = dktX4_isSingle_0 := by decide +kernel
theorem dX4_isSingle_0 : decode cX4_isSingle 0 = .ok (.iload_n 0, 1) := dk_26 (dk_at dksX4_isSingle_0 0 rfl rfl)
theorem dX4_isSingle_1 : decode cX4_isSingle 1 = .ok (.iload_n 0, 1) := dk_26 (dk_at dksX4_isSingle_0 1 rfl rfl)
theorem dX4_isSingle_2 : decode cX4_isSingle 2 = .ok (.iconst 1, 1) := dk_4 (dk_at dksX4_isSingle_0 2 rfl rfl)
theorem dX4_isSingle_3 : decode cX4_isSingle 3 = .ok (.isub, 1) := dk_100 (dk_at dksX4_isSingle_0 3 rfl rfl)
theorem dX4_isSingle_4 : decode cX4_isSingle 4 = .ok (.iand, 1) := dk_126 (dk_at dksX4_isSingle_0 4 rfl rfl)
theorem dX4_isSingle_5 : decode cX4_isSingle 5 = .ok (.ifCond .ne 7, 3) := dk_154 0 7 (dk_at dksX4_isSingle_0 5 rfl rfl)
theorem dX4_isSingle_8 : decode cX4_isSingle 8 = .ok (.iconst 1, 1) := dk_4 (dk_at dksX4_isSingle_0 8 rfl rfl)
theorem dX4_isSingle_9 : decode cX4_isSingle 9 = .ok (.goto 4, 3) := dk_167 0 4 (dk_at dksX4_isSingle_0 9 rfl rfl)
theorem dX4_isSingle_12 : decode cX4_isSingle 12 = .ok (.iconst 0, 1) := dk_3 (dk_at dksX4_isSingle_0 12 rfl rfl)
theorem dX4_isSingle_13 : decode cX4_isSingle 13 = .ok (.ireturn, 1) := dk_172 (dk_at dksX4_isSingle_0 13 rfl rfl)
abbrev cX4_one : ByteArray := prog_18_method_29_code
def yX4_one : MethodName := ⟨RX4, "one", "(I)I"⟩
def dkwX4_one_0 : List UInt8 := [3, 60, 26, 27, 122, 4, 126, 154, 0, 9, 132, 1, 1, 167, 255, 245, 27, 172]
abbrev dktX4_one_0 : List UInt8 := dkwX4_one_0 ++ []
theorem dksX4_one_0 : cX4_one.data.toList.drop 0 = dktX4_one_0 := by decide +kernel
theorem dX4_one_0 : decode cX4_one 0 = .ok (.iconst 0, 1) := dk_3 (dk_at dksX4_one_0 0 rfl rfl)
theorem dX4_one_1 : decode cX4_one 1 = .ok (.istore_n 1, 1) := dk_60 (dk_at dksX4_one_0 1 rfl rfl)
theorem dX4_one_2 : decode cX4_one 2 = .ok (.iload_n 0, 1) := dk_26 (dk_at dksX4_one_0 2 rfl rfl)
theorem dX4_one_3 : decode cX4_one 3 = .ok (.iload_n 1, 1) := dk_27 (dk_at dksX4_one_0 3 rfl rfl)
theorem dX4_one_4 : decode cX4_one 4 = .ok (.ishr, 1) := dk_122 (dk_at dksX4_one_0 4 rfl rfl)
theorem dX4_one_5 : decode cX4_one 5 = .ok (.iconst 1, 1) := dk_4 (dk_at dksX4_one_0 5 rfl rfl)
theorem dX4_one_6 : decode cX4_one 6 = .ok (.iand, 1) := dk_126 (dk_at dksX4_one_0 6 rfl rfl)
theorem dX4_one_7 : decode cX4_one 7 = .ok (.ifCond .ne 9, 3) := dk_154 0 9 (dk_at dksX4_one_0 7 rfl rfl)
theorem dX4_one_10 : decode cX4_one 10 = .ok (.iinc 1 1, 3) := dk_132 1 1 (dk_at dksX4_one_0 10 rfl rfl)
theorem dX4_one_13 : decode cX4_one 13 = .ok (.goto (-11), 3) := dk_167 255 245 (dk_at dksX4_one_0 13 rfl rfl)
theorem dX4_one_16 : decode cX4_one 16 = .ok (.iload_n 1, 1) := dk_27 (dk_at dksX4_one_0 16 rfl rfl)
theorem dX4_one_17 : decode cX4_one 17 = .ok (.ireturn, 1) := dk_172 (dk_at dksX4_one_0 17 rfl rfl)
abbrev cX4_valueOf : ByteArray := prog_18_method_35_code
def yX4_valueOf : MethodName := ⟨RX4, "valueOf", "(I)J"⟩
def dkwX4_valueOf_1 : List UInt8 := [16, 65, 27, 104, 46, 4, 100, 47, 167, 0, 4, 9, 173]
abbrev dktX4_valueOf_1 : List UInt8 := dkwX4_valueOf_1 ++ []
def dkwX4_valueOf_0 : List UInt8 := [42, 42, 180, 0, 9, 16, 65, 27, 104, 182, 0, 252, 153, 0, 22, 42, 180, 0, 85, 42, 180, 0, 9]
abbrev dktX4_valueOf_0 : List UInt8 := dkwX4_valueOf_0 ++ dktX4_valueOf_1
theorem dksX4_valueOf_0 : cX4_valueOf.data.toList.drop 0 = dktX4_valueOf_0 := by decide +kernel
theorem dksX4_valueOf_1 : cX4_valueOf.data.toList.drop 23 = dktX4_valueOf_1 := dk_seg dksX4_valueOf_0 23 rfl rfl
theorem dX4_valueOf_0 : decode cX4_valueOf 0 = .ok (.aload_n 0, 1) := dk_42 (dk_at dksX4_valueOf_0 0 rfl rfl)
theorem dX4_valueOf_1 : decode cX4_valueOf 1 = .ok (.aload_n 0, 1) := dk_42 (dk_at dksX4_valueOf_0 1 rfl rfl)
theorem dX4_valueOf_2 : decode cX4_valueOf 2 = .ok (.getfield 9, 3) := dk_180 0 9 (dk_at dksX4_valueOf_0 2 rfl rfl)
theorem dX4_valueOf_5 : decode cX4_valueOf 5 = .ok (.bipush 65, 2) := dk_16 65 (dk_at dksX4_valueOf_0 5 rfl rfl)
theorem dX4_valueOf_7 : decode cX4_valueOf 7 = .ok (.iload_n 1, 1) := dk_27 (dk_at dksX4_valueOf_0 7 rfl rfl)
theorem dX4_valueOf_8 : decode cX4_valueOf 8 = .ok (.imul, 1) := dk_104 (dk_at dksX4_valueOf_0 8 rfl rfl)
theorem dX4_valueOf_9 : decode cX4_valueOf 9 = .ok (.invokevirtual 252, 3) := dk_182 0 252 (dk_at dksX4_valueOf_0 9 rfl rfl)
theorem dX4_valueOf_12 : decode cX4_valueOf 12 = .ok (.ifCond .eq 22, 3) := dk_153 0 22 (dk_at dksX4_valueOf_0 12 rfl rfl)
theorem dX4_valueOf_15 : decode cX4_valueOf 15 = .ok (.aload_n 0, 1) := dk_42 (dk_at dksX4_valueOf_0 15 rfl rfl)
theorem dX4_valueOf_16 : decode cX4_valueOf 16 = .ok (.getfield 85, 3) := dk_180 0 85 (dk_at dksX4_valueOf_0 16 rfl rfl)
theorem dX4_valueOf_19 : decode cX4_valueOf 19 = .ok (.aload_n 0, 1) := dk_42 (dk_at dksX4_valueOf_0 19 rfl rfl)
theorem dX4_valueOf_20 : decode cX4_valueOf 20 = .ok (.getfield 9, 3) := dk_180 0 9 (dk_at dksX4_valueOf_0 20 rfl rfl)
theorem dX4_valueOf_23 : decode cX4_valueOf 23 = .ok (.bipush 65, 2) := dk_16 65 (dk_at dksX4_valueOf_1 0 rfl rfl)
theorem dX4_valueOf_25 : decode cX4_valueOf 25 = .ok (.iload_n 1, 1) := dk_27 (dk_at dksX4_valueOf_1 2 rfl rfl)
theorem dX4_valueOf_26 : decode cX4_valueOf 26 = .ok (.imul, 1) := dk_104 (dk_at dksX4_valueOf_1 3 rfl rfl)
theorem dX4_valueOf_27 : decode cX4_valueOf 27 = .ok (.iaload, 1) := dk_46 (dk_at dksX4_valueOf_1 4 rfl rfl)
theorem dX4_valueOf_28 : decode cX4_valueOf 28 = .ok (.iconst 1, 1) := dk_4 (dk_at dksX4_valueOf_1 5 rfl rfl)
theorem dX4_valueOf_29 : decode cX4_valueOf 29 = .ok (.isub, 1) := dk_100 (dk_at dksX4_valueOf_1 6 rfl rfl)
theorem dX4_valueOf_30 : decode cX4_valueOf 30 = .ok (.laload, 1) := dk_47 (dk_at dksX4_valueOf_1 7 rfl rfl)
theorem dX4_valueOf_31 : decode cX4_valueOf 31 = .ok (.goto 4, 3) := dk_167 0 4 (dk_at dksX4_valueOf_1 8 rfl rfl)
theorem dX4_valueOf_34 : decode cX4_valueOf 34 = .ok (.lconst 0, 1) := dk_9 (dk_at dksX4_valueOf_1 11 rfl rfl)
theorem dX4_valueOf_35 : decode cX4_valueOf 35 = .ok (.lreturn, 1) := dk_173 (dk_at dksX4_valueOf_1 12 rfl rfl)
abbrev cX4_exponentOf : ByteArray := prog_18_method_33_code
def yX4_exponentOf : MethodName := ⟨RX4, "exponentOf", "(J)I"⟩
def dkwX4_exponentOf_1 : List UInt8 := [132, 4, 255, 167, 255, 236, 21, 4, 172]
abbrev dktX4_exponentOf_1 : List UInt8 := dkwX4_exponentOf_1 ++ []
def dkwX4_exponentOf_0 : List UInt8 := [30, 65, 16, 40, 54, 4, 21, 4, 158, 0, 21, 32, 10, 127, 9, 148, 154, 0, 13, 32, 4, 123, 65]
abbrev dktX4_exponentOf_0 : List UInt8 := dkwX4_exponentOf_0 ++ dktX4_exponentOf_1
theorem dksX4_exponentOf_0 : cX4_exponentOf.data.toList.drop 0 = dktX4_exponentOf_0 := by decide +kernel
theorem dksX4_exponentOf_1 : cX4_exponentOf.data.toList.drop 23 = dktX4_exponentOf_1 := dk_seg dksX4_exponentOf_0 23 rfl rfl
theorem dX4_exponentOf_0 : decode cX4_exponentOf 0 = .ok (.lload_n 0, 1) := dk_30 (dk_at dksX4_exponentOf_0 0 rfl rfl)
theorem dX4_exponentOf_1 : decode cX4_exponentOf 1 = .ok (.lstore_n 2, 1) := dk_65 (dk_at dksX4_exponentOf_0 1 rfl rfl)
theorem dX4_exponentOf_2 : decode cX4_exponentOf 2 = .ok (.bipush 40, 2) := dk_16 40 (dk_at dksX4_exponentOf_0 2 rfl rfl)
theorem dX4_exponentOf_4 : decode cX4_exponentOf 4 = .ok (.istore 4, 2) := dk_54 4 (dk_at dksX4_exponentOf_0 4 rfl rfl)
theorem dX4_exponentOf_6 : decode cX4_exponentOf 6 = .ok (.iload 4, 2) := dk_21 4 (dk_at dksX4_exponentOf_0 6 rfl rfl)
theorem dX4_exponentOf_8 : decode cX4_exponentOf 8 = .ok (.ifCond .le 21, 3) := dk_158 0 21 (dk_at dksX4_exponentOf_0 8 rfl rfl)
theorem dX4_exponentOf_11 : decode cX4_exponentOf 11 = .ok (.lload_n 2, 1) := dk_32 (dk_at dksX4_exponentOf_0 11 rfl rfl)
theorem dX4_exponentOf_12 : decode cX4_exponentOf 12 = .ok (.lconst 1, 1) := dk_10 (dk_at dksX4_exponentOf_0 12 rfl rfl)
theorem dX4_exponentOf_13 : decode cX4_exponentOf 13 = .ok (.land, 1) := dk_127 (dk_at dksX4_exponentOf_0 13 rfl rfl)
theorem dX4_exponentOf_14 : decode cX4_exponentOf 14 = .ok (.lconst 0, 1) := dk_9 (dk_at dksX4_exponentOf_0 14 rfl rfl)
theorem dX4_exponentOf_15 : decode cX4_exponentOf 15 = .ok (.lcmp, 1) := dk_148 (dk_at dksX4_exponentOf_0 15 rfl rfl)
theorem dX4_exponentOf_16 : decode cX4_exponentOf 16 = .ok (.ifCond .ne 13, 3) := dk_154 0 13 (dk_at dksX4_exponentOf_0 16 rfl rfl)
theorem dX4_exponentOf_19 : decode cX4_exponentOf 19 = .ok (.lload_n 2, 1) := dk_32 (dk_at dksX4_exponentOf_0 19 rfl rfl)
theorem dX4_exponentOf_20 : decode cX4_exponentOf 20 = .ok (.iconst 1, 1) := dk_4 (dk_at dksX4_exponentOf_0 20 rfl rfl)
theorem dX4_exponentOf_21 : decode cX4_exponentOf 21 = .ok (.lshr, 1) := dk_123 (dk_at dksX4_exponentOf_0 21 rfl rfl)
theorem dX4_exponentOf_22 : decode cX4_exponentOf 22 = .ok (.lstore_n 2, 1) := dk_65 (dk_at dksX4_exponentOf_0 22 rfl rfl)
theorem dX4_exponentOf_23 : decode cX4_exponentOf 23 = .ok (.iinc 4 (-1), 3) := dk_132 4 255 (dk_at dksX4_exponentOf_1 0 rfl rfl)
theorem dX4_exponentOf_26 : decode cX4_exponentOf 26 = .ok (.goto (-20), 3) := dk_167 255 236 (dk_at dksX4_exponentOf_1 3 rfl rfl)
theorem dX4_exponentOf_29 : decode cX4_exponentOf 29 = .ok (.iload 4, 2) := dk_21 4 (dk_at dksX4_exponentOf_1 6 rfl rfl)
theorem dX4_exponentOf_31 : decode cX4_exponentOf 31 = .ok (.ireturn, 1) := dk_172 (dk_at dksX4_exponentOf_1 8 rfl rfl)
abbrev cX4_numeratorOf : ByteArray := prog_18_method_32_code
def yX4_numeratorOf : MethodName := ⟨RX4, "numeratorOf", "(J)I"⟩
def dkwX4_numeratorOf_1 : List UInt8 := [132, 4, 1, 167, 255, 234, 32, 136, 172]
abbrev dktX4_numeratorOf_1 : List UInt8 := dkwX4_numeratorOf_1 ++ []
def dkwX4_numeratorOf_0 : List UInt8 := [30, 65, 3, 54, 4, 21, 4, 16, 40, 162, 0, 21, 32, 10, 127, 9, 148, 154, 0, 13, 32, 4, 123, 65]
abbrev dktX4_numeratorOf_0 : List UInt8 := dkwX4_numeratorOf_0 ++ dktX4_numeratorOf_1
theorem dksX4_numeratorOf_0 : cX4_numeratorOf.data.toList.drop 0 = dktX4_numeratorOf_0 := by decide +kernel
theorem dksX4_numeratorOf_1 : cX4_numeratorOf.data.toList.drop 24 = dktX4_numeratorOf_1 := dk_seg dksX4_numeratorOf_0 24 rfl rfl
theorem dX4_numeratorOf_0 : decode cX4_numeratorOf 0 = .ok (.lload_n 0, 1) := dk_30 (dk_at dksX4_numeratorOf_0 0 rfl rfl)
theorem dX4_numeratorOf_1 : decode cX4_numeratorOf 1 = .ok (.lstore_n 2, 1) := dk_65 (dk_at dksX4_numeratorOf_0 1 rfl rfl)
theorem dX4_numeratorOf_2 : decode cX4_numeratorOf 2 = .ok (.iconst 0, 1) := dk_3 (dk_at dksX4_numeratorOf_0 2 rfl rfl)
theorem dX4_numeratorOf_3 : decode cX4_numeratorOf 3 = .ok (.istore 4, 2) := dk_54 4 (dk_at dksX4_numeratorOf_0 3 rfl rfl)
theorem dX4_numeratorOf_5 : decode cX4_numeratorOf 5 = .ok (.iload 4, 2) := dk_21 4 (dk_at dksX4_numeratorOf_0 5 rfl rfl)
theorem dX4_numeratorOf_7 : decode cX4_numeratorOf 7 = .ok (.bipush 40, 2) := dk_16 40 (dk_at dksX4_numeratorOf_0 7 rfl rfl)
theorem dX4_numeratorOf_9 : decode cX4_numeratorOf 9 = .ok (.if_icmp .ge 21, 3) := dk_162 0 21 (dk_at dksX4_numeratorOf_0 9 rfl rfl)
theorem dX4_numeratorOf_12 : decode cX4_numeratorOf 12 = .ok (.lload_n 2, 1) := dk_32 (dk_at dksX4_numeratorOf_0 12 rfl rfl)
theorem dX4_numeratorOf_13 : decode cX4_numeratorOf 13 = .ok (.lconst 1, 1) := dk_10 (dk_at dksX4_numeratorOf_0 13 rfl rfl)
theorem dX4_numeratorOf_14 : decode cX4_numeratorOf 14 = .ok (.land, 1) := dk_127 (dk_at dksX4_numeratorOf_0 14 rfl rfl)
theorem dX4_numeratorOf_15 : decode cX4_numeratorOf 15 = .ok (.lconst 0, 1) := dk_9 (dk_at dksX4_numeratorOf_0 15 rfl rfl)
theorem dX4_numeratorOf_16 : decode cX4_numeratorOf 16 = .ok (.lcmp, 1) := dk_148 (dk_at dksX4_numeratorOf_0 16 rfl rfl)
theorem dX4_numeratorOf_17 : decode cX4_numeratorOf 17 = .ok (.ifCond .ne 13, 3) := dk_154 0 13 (dk_at dksX4_numeratorOf_0 17 rfl rfl)
theorem dX4_numeratorOf_20 : decode cX4_numeratorOf 20 = .ok (.lload_n 2, 1) := dk_32 (dk_at dksX4_numeratorOf_0 20 rfl rfl)
theorem dX4_numeratorOf_21 : decode cX4_numeratorOf 21 = .ok (.iconst 1, 1) := dk_4 (dk_at dksX4_numeratorOf_0 21 rfl rfl)
theorem dX4_numeratorOf_22 : decode cX4_numeratorOf 22 = .ok (.lshr, 1) := dk_123 (dk_at dksX4_numeratorOf_0 22 rfl rfl)
theorem dX4_numeratorOf_23 : decode cX4_numeratorOf 23 = .ok (.lstore_n 2, 1) := dk_65 (dk_at dksX4_numeratorOf_0 23 rfl rfl)
theorem dX4_numeratorOf_24 : decode cX4_numeratorOf 24 = .ok (.iinc 4 1, 3) := dk_132 4 1 (dk_at dksX4_numeratorOf_1 0 rfl rfl)
theorem dX4_numeratorOf_27 : decode cX4_numeratorOf 27 = .ok (.goto (-22), 3) := dk_167 255 234 (dk_at dksX4_numeratorOf_1 3 rfl rfl)
theorem dX4_numeratorOf_30 : decode cX4_numeratorOf 30 = .ok (.lload_n 2, 1) := dk_32 (dk_at dksX4_numeratorOf_1 6 rfl rfl)
theorem dX4_numeratorOf_31 : decode cX4_numeratorOf 31 = .ok (.l2i, 1) := dk_136 (dk_at dksX4_numeratorOf_1 7 rfl rfl)
theorem dX4_numeratorOf_32 : decode cX4_numeratorOf 32 = .ok (.ireturn, 1) := dk_172 (dk_at dksX4_numeratorOf_1 8 rfl rfl)
abbrev cX4_putNumber : ByteArray := prog_18_method_68_code
def yX4_putNumber : MethodName := ⟨RX4, "putNumber", "(JI)I"⟩
def dkwX4_putNumber_1 : List UInt8 := [100, 172]
abbrev dktX4_putNumber_1 : List UInt8 := dkwX4_putNumber_1 ++ []
def dkwX4_putNumber_0 : List UInt8 := [42, 31, 182, 1, 38, 154, 0, 7, 19, 1, 42, 172, 42, 29, 182, 1, 43, 42, 180, 0, 82, 3, 46, 4]
abbrev dktX4_putNumber_0 : List UInt8 := dkwX4_putNumber_0 ++ dktX4_putNumber_1
theorem dksX4_putNumber_0 : cX4_putNumber.data.toList.drop 0 = dktX4_putNumber_0 := by decide +kernel
theorem dksX4_putNumber_1 : cX4_putNumber.data.toList.drop 24 = dktX4_putNumber_1 := dk_seg dksX4_putNumber_0 24 rfl rfl
theorem dX4_putNumber_0 : decode cX4_putNumber 0 = .ok (.aload_n 0, 1) := dk_42 (dk_at dksX4_putNumber_0 0 rfl rfl)
theorem dX4_putNumber_1 : decode cX4_putNumber 1 = .ok (.lload_n 1, 1) := dk_31 (dk_at dksX4_putNumber_0 1 rfl rfl)
theorem dX4_putNumber_2 : decode cX4_putNumber 2 = .ok (.invokevirtual 294, 3) := dk_182 1 38 (dk_at dksX4_putNumber_0 2 rfl rfl)
theorem dX4_putNumber_5 : decode cX4_putNumber 5 = .ok (.ifCond .ne 7, 3) := dk_154 0 7 (dk_at dksX4_putNumber_0 5 rfl rfl)
theorem dX4_putNumber_8 : decode cX4_putNumber 8 = .ok (.ldc_w 298, 3) := dk_19 1 42 (dk_at dksX4_putNumber_0 8 rfl rfl)
theorem dX4_putNumber_11 : decode cX4_putNumber 11 = .ok (.ireturn, 1) := dk_172 (dk_at dksX4_putNumber_0 11 rfl rfl)
theorem dX4_putNumber_12 : decode cX4_putNumber 12 = .ok (.aload_n 0, 1) := dk_42 (dk_at dksX4_putNumber_0 12 rfl rfl)
theorem dX4_putNumber_13 : decode cX4_putNumber 13 = .ok (.iload_n 3, 1) := dk_29 (dk_at dksX4_putNumber_0 13 rfl rfl)
theorem dX4_putNumber_14 : decode cX4_putNumber 14 = .ok (.invokevirtual 299, 3) := dk_182 1 43 (dk_at dksX4_putNumber_0 14 rfl rfl)
theorem dX4_putNumber_17 : decode cX4_putNumber 17 = .ok (.aload_n 0, 1) := dk_42 (dk_at dksX4_putNumber_0 17 rfl rfl)
theorem dX4_putNumber_18 : decode cX4_putNumber 18 = .ok (.getfield 82, 3) := dk_180 0 82 (dk_at dksX4_putNumber_0 18 rfl rfl)
theorem dX4_putNumber_21 : decode cX4_putNumber 21 = .ok (.iconst 0, 1) := dk_3 (dk_at dksX4_putNumber_0 21 rfl rfl)
theorem dX4_putNumber_22 : decode cX4_putNumber 22 = .ok (.iaload, 1) := dk_46 (dk_at dksX4_putNumber_0 22 rfl rfl)
theorem dX4_putNumber_23 : decode cX4_putNumber 23 = .ok (.iconst 1, 1) := dk_4 (dk_at dksX4_putNumber_0 23 rfl rfl)
theorem dX4_putNumber_24 : decode cX4_putNumber 24 = .ok (.isub, 1) := dk_100 (dk_at dksX4_putNumber_1 0 rfl rfl)
theorem dX4_putNumber_25 : decode cX4_putNumber 25 = .ok (.ireturn, 1) := dk_172 (dk_at dksX4_putNumber_1 1 rfl rfl)
abbrev cX4_reciprocal : ByteArray := prog_18_method_70_code
def yX4_reciprocal : MethodName := ⟨RX4, "reciprocal", "(II)I"⟩
def dkwX4_reciprocal_5 : List UInt8 := [148, 156, 0, 11, 10, 21, 8, 121, 117, 167, 0, 7, 10, 21, 8, 121, 28, 182, 1, 94, 172]
abbrev dktX4_reciprocal_5 : List UInt8 := dkwX4_reciprocal_5 ++ []
def dkwX4_reciprocal_4 : List UInt8 := [167, 255, 243, 16, 80, 21, 7, 100, 54, 8, 21, 8, 16, 45, 164, 0, 7, 19, 1, 42, 172, 42, 33, 9]
abbrev dktX4_reciprocal_4 : List UInt8 := dkwX4_reciprocal_4 ++ dktX4_reciprocal_5
def dkwX4_reciprocal_3 : List UInt8 := [153, 0, 6, 18, 195, 172, 3, 54, 7, 10, 21, 7, 121, 22, 5, 148, 156, 0, 9, 132, 7, 1]
abbrev dktX4_reciprocal_3 : List UInt8 := dkwX4_reciprocal_3 ++ dktX4_reciprocal_4
def dkwX4_reciprocal_2 : List UInt8 := [117, 167, 0, 4, 33, 55, 5, 22, 5, 9, 148, 153, 0, 15, 22, 5, 22, 5, 10, 101, 127, 9, 148]
abbrev dktX4_reciprocal_2 : List UInt8 := dkwX4_reciprocal_2 ++ dktX4_reciprocal_3
def dkwX4_reciprocal_1 : List UInt8 := [27, 182, 1, 82, 154, 0, 7, 19, 1, 85, 172, 42, 27, 182, 1, 86, 66, 33, 9, 148, 156, 0, 8, 33]
abbrev dktX4_reciprocal_1 : List UInt8 := dkwX4_reciprocal_1 ++ dktX4_reciprocal_2
def dkwX4_reciprocal_0 : List UInt8 := [42, 3, 181, 0, 146, 27, 184, 1, 34, 153, 0, 10, 28, 184, 1, 34, 154, 0, 7, 19, 1, 37, 172, 42]
abbrev dktX4_reciprocal_0 : List UInt8 := dkwX4_reciprocal_0 ++ dktX4_reciprocal_1
theorem dksX4_reciprocal_0 : cX4_reciprocal.data.toList.drop 0 = dktX4_reciprocal_0 := by decide +kernel
theorem dksX4_reciprocal_1 : cX4_reciprocal.data.toList.drop 24 = dktX4_reciprocal_1 := dk_seg dksX4_reciprocal_0 24 rfl rfl
theorem dksX4_reciprocal_2 : cX4_reciprocal.data.toList.drop 48 = dktX4_reciprocal_2 := dk_seg dksX4_reciprocal_1 24 rfl rfl
theorem dksX4_reciprocal_3 : cX4_reciprocal.data.toList.drop 71 = dktX4_reciprocal_3 := dk_seg dksX4_reciprocal_2 23 rfl rfl
theorem dksX4_reciprocal_4 : cX4_reciprocal.data.toList.drop 93 = dktX4_reciprocal_4 := dk_seg dksX4_reciprocal_3 22 rfl rfl
theorem dksX4_reciprocal_5 : cX4_reciprocal.data.toList.drop 117 = dktX4_reciprocal_5 := dk_seg dksX4_reciprocal_4 24 rfl rfl
theorem dX4_reciprocal_0 : decode cX4_reciprocal 0 = .ok (.aload_n 0, 1) := dk_42 (dk_at dksX4_reciprocal_0 0 rfl rfl)
theorem dX4_reciprocal_1 : decode cX4_reciprocal 1 = .ok (.iconst 0, 1) := dk_3 (dk_at dksX4_reciprocal_0 1 rfl rfl)
theorem dX4_reciprocal_2 : decode cX4_reciprocal 2 = .ok (.putfield 146, 3) := dk_181 0 146 (dk_at dksX4_reciprocal_0 2 rfl rfl)
theorem dX4_reciprocal_5 : decode cX4_reciprocal 5 = .ok (.iload_n 1, 1) := dk_27 (dk_at dksX4_reciprocal_0 5 rfl rfl)
theorem dX4_reciprocal_6 : decode cX4_reciprocal 6 = .ok (.invokestatic 290, 3) := dk_184 1 34 (dk_at dksX4_reciprocal_0 6 rfl rfl)
theorem dX4_reciprocal_9 : decode cX4_reciprocal 9 = .ok (.ifCond .eq 10, 3) := dk_153 0 10 (dk_at dksX4_reciprocal_0 9 rfl rfl)
theorem dX4_reciprocal_12 : decode cX4_reciprocal 12 = .ok (.iload_n 2, 1) := dk_28 (dk_at dksX4_reciprocal_0 12 rfl rfl)
theorem dX4_reciprocal_13 : decode cX4_reciprocal 13 = .ok (.invokestatic 290, 3) := dk_184 1 34 (dk_at dksX4_reciprocal_0 13 rfl rfl)
theorem dX4_reciprocal_16 : decode cX4_reciprocal 16 = .ok (.ifCond .ne 7, 3) := dk_154 0 7 (dk_at dksX4_reciprocal_0 16 rfl rfl)
theorem dX4_reciprocal_19 : decode cX4_reciprocal 19 = .ok (.ldc_w 293, 3) := dk_19 1 37 (dk_at dksX4_reciprocal_0 19 rfl rfl)
theorem dX4_reciprocal_22 : decode cX4_reciprocal 22 = .ok (.ireturn, 1) := dk_172 (dk_at dksX4_reciprocal_0 22 rfl rfl)
theorem dX4_reciprocal_23 : decode cX4_reciprocal 23 = .ok (.aload_n 0, 1) := dk_42 (dk_at dksX4_reciprocal_0 23 rfl rfl)
theorem dX4_reciprocal_24 : decode cX4_reciprocal 24 = .ok (.iload_n 1, 1) := dk_27 (dk_at dksX4_reciprocal_1 0 rfl rfl)
theorem dX4_reciprocal_25 : decode cX4_reciprocal 25 = .ok (.invokevirtual 338, 3) := dk_182 1 82 (dk_at dksX4_reciprocal_1 1 rfl rfl)
theorem dX4_reciprocal_28 : decode cX4_reciprocal 28 = .ok (.ifCond .ne 7, 3) := dk_154 0 7 (dk_at dksX4_reciprocal_1 4 rfl rfl)
theorem dX4_reciprocal_31 : decode cX4_reciprocal 31 = .ok (.ldc_w 341, 3) := dk_19 1 85 (dk_at dksX4_reciprocal_1 7 rfl rfl)
theorem dX4_reciprocal_34 : decode cX4_reciprocal 34 = .ok (.ireturn, 1) := dk_172 (dk_at dksX4_reciprocal_1 10 rfl rfl)
theorem dX4_reciprocal_35 : decode cX4_reciprocal 35 = .ok (.aload_n 0, 1) := dk_42 (dk_at dksX4_reciprocal_1 11 rfl rfl)
theorem dX4_reciprocal_36 : decode cX4_reciprocal 36 = .ok (.iload_n 1, 1) := dk_27 (dk_at dksX4_reciprocal_1 12 rfl rfl)
theorem dX4_reciprocal_37 : decode cX4_reciprocal 37 = .ok (.invokevirtual 342, 3) := dk_182 1 86 (dk_at dksX4_reciprocal_1 13 rfl rfl)
theorem dX4_reciprocal_40 : decode cX4_reciprocal 40 = .ok (.lstore_n 3, 1) := dk_66 (dk_at dksX4_reciprocal_1 16 rfl rfl)
theorem dX4_reciprocal_41 : decode cX4_reciprocal 41 = .ok (.lload_n 3, 1) := dk_33 (dk_at dksX4_reciprocal_1 17 rfl rfl)
theorem dX4_reciprocal_42 : decode cX4_reciprocal 42 = .ok (.lconst 0, 1) := dk_9 (dk_at dksX4_reciprocal_1 18 rfl rfl)
theorem dX4_reciprocal_43 : decode cX4_reciprocal 43 = .ok (.lcmp, 1) := dk_148 (dk_at dksX4_reciprocal_1 19 rfl rfl)
theorem dX4_reciprocal_44 : decode cX4_reciprocal 44 = .ok (.ifCond .ge 8, 3) := dk_156 0 8 (dk_at dksX4_reciprocal_1 20 rfl rfl)
theorem dX4_reciprocal_47 : decode cX4_reciprocal 47 = .ok (.lload_n 3, 1) := dk_33 (dk_at dksX4_reciprocal_1 23 rfl rfl)
theorem dX4_reciprocal_48 : decode cX4_reciprocal 48 = .ok (.lneg, 1) := dk_117 (dk_at dksX4_reciprocal_2 0 rfl rfl)
theorem dX4_reciprocal_49 : decode cX4_reciprocal 49 = .ok (.goto 4, 3) := dk_167 0 4 (dk_at dksX4_reciprocal_2 1 rfl rfl)
theorem dX4_reciprocal_52 : decode cX4_reciprocal 52 = .ok (.lload_n 3, 1) := dk_33 (dk_at dksX4_reciprocal_2 4 rfl rfl)
theorem dX4_reciprocal_53 : decode cX4_reciprocal 53 = .ok (.lstore 5, 2) := dk_55 5 (dk_at dksX4_reciprocal_2 5 rfl rfl)
theorem dX4_reciprocal_55 : decode cX4_reciprocal 55 = .ok (.lload 5, 2) := dk_22 5 (dk_at dksX4_reciprocal_2 7 rfl rfl)
theorem dX4_reciprocal_57 : decode cX4_reciprocal 57 = .ok (.lconst 0, 1) := dk_9 (dk_at dksX4_reciprocal_2 9 rfl rfl)
theorem dX4_reciprocal_58 : decode cX4_reciprocal 58 = .ok (.lcmp, 1) := dk_148 (dk_at dksX4_reciprocal_2 10 rfl rfl)
theorem dX4_reciprocal_59 : decode cX4_reciprocal 59 = .ok (.ifCond .eq 15, 3) := dk_153 0 15 (dk_at dksX4_reciprocal_2 11 rfl rfl)
theorem dX4_reciprocal_62 : decode cX4_reciprocal 62 = .ok (.lload 5, 2) := dk_22 5 (dk_at dksX4_reciprocal_2 14 rfl rfl)
theorem dX4_reciprocal_64 : decode cX4_reciprocal 64 = .ok (.lload 5, 2) := dk_22 5 (dk_at dksX4_reciprocal_2 16 rfl rfl)
theorem dX4_reciprocal_66 : decode cX4_reciprocal 66 = .ok (.lconst 1, 1) := dk_10 (dk_at dksX4_reciprocal_2 18 rfl rfl)
theorem dX4_reciprocal_67 : decode cX4_reciprocal 67 = .ok (.lsub, 1) := dk_101 (dk_at dksX4_reciprocal_2 19 rfl rfl)
theorem dX4_reciprocal_68 : decode cX4_reciprocal 68 = .ok (.land, 1) := dk_127 (dk_at dksX4_reciprocal_2 20 rfl rfl)
theorem dX4_reciprocal_69 : decode cX4_reciprocal 69 = .ok (.lconst 0, 1) := dk_9 (dk_at dksX4_reciprocal_2 21 rfl rfl)
theorem dX4_reciprocal_70 : decode cX4_reciprocal 70 = .ok (.lcmp, 1) := dk_148 (dk_at dksX4_reciprocal_2 22 rfl rfl)
theorem dX4_reciprocal_71 : decode cX4_reciprocal 71 = .ok (.ifCond .eq 6, 3) := dk_153 0 6 (dk_at dksX4_reciprocal_3 0 rfl rfl)
theorem dX4_reciprocal_74 : decode cX4_reciprocal 74 = .ok (.ldc 195, 2) := dk_18 195 (dk_at dksX4_reciprocal_3 3 rfl rfl)
theorem dX4_reciprocal_76 : decode cX4_reciprocal 76 = .ok (.ireturn, 1) := dk_172 (dk_at dksX4_reciprocal_3 5 rfl rfl)
theorem dX4_reciprocal_77 : decode cX4_reciprocal 77 = .ok (.iconst 0, 1) := dk_3 (dk_at dksX4_reciprocal_3 6 rfl rfl)
theorem dX4_reciprocal_78 : decode cX4_reciprocal 78 = .ok (.istore 7, 2) := dk_54 7 (dk_at dksX4_reciprocal_3 7 rfl rfl)
theorem dX4_reciprocal_80 : decode cX4_reciprocal 80 = .ok (.lconst 1, 1) := dk_10 (dk_at dksX4_reciprocal_3 9 rfl rfl)
theorem dX4_reciprocal_81 : decode cX4_reciprocal 81 = .ok (.iload 7, 2) := dk_21 7 (dk_at dksX4_reciprocal_3 10 rfl rfl)
theorem dX4_reciprocal_83 : decode cX4_reciprocal 83 = .ok (.lshl, 1) := dk_121 (dk_at dksX4_reciprocal_3 12 rfl rfl)
theorem dX4_reciprocal_84 : decode cX4_reciprocal 84 = .ok (.lload 5, 2) := dk_22 5 (dk_at dksX4_reciprocal_3 13 rfl rfl)
theorem dX4_reciprocal_86 : decode cX4_reciprocal 86 = .ok (.lcmp, 1) := dk_148 (dk_at dksX4_reciprocal_3 15 rfl rfl)
theorem dX4_reciprocal_87 : decode cX4_reciprocal 87 = .ok (.ifCond .ge 9, 3) := dk_156 0 9 (dk_at dksX4_reciprocal_3 16 rfl rfl)
theorem dX4_reciprocal_90 : decode cX4_reciprocal 90 = .ok (.iinc 7 1, 3) := dk_132 7 1 (dk_at dksX4_reciprocal_3 19 rfl rfl)
theorem dX4_reciprocal_93 : decode cX4_reciprocal 93 = .ok (.goto (-13), 3) := dk_167 255 243 (dk_at dksX4_reciprocal_4 0 rfl rfl)
theorem dX4_reciprocal_96 : decode cX4_reciprocal 96 = .ok (.bipush 80, 2) := dk_16 80 (dk_at dksX4_reciprocal_4 3 rfl rfl)
theorem dX4_reciprocal_98 : decode cX4_reciprocal 98 = .ok (.iload 7, 2) := dk_21 7 (dk_at dksX4_reciprocal_4 5 rfl rfl)
theorem dX4_reciprocal_100 : decode cX4_reciprocal 100 = .ok (.isub, 1) := dk_100 (dk_at dksX4_reciprocal_4 7 rfl rfl)
theorem dX4_reciprocal_101 : decode cX4_reciprocal 101 = .ok (.istore 8, 2) := dk_54 8 (dk_at dksX4_reciprocal_4 8 rfl rfl)
theorem dX4_reciprocal_103 : decode cX4_reciprocal 103 = .ok (.iload 8, 2) := dk_21 8 (dk_at dksX4_reciprocal_4 10 rfl rfl)
theorem dX4_reciprocal_105 : decode cX4_reciprocal 105 = .ok (.bipush 45, 2) := dk_16 45 (dk_at dksX4_reciprocal_4 12 rfl rfl)
theorem dX4_reciprocal_107 : decode cX4_reciprocal 107 = .ok (.if_icmp .le 7, 3) := dk_164 0 7 (dk_at dksX4_reciprocal_4 14 rfl rfl)
theorem dX4_reciprocal_110 : decode cX4_reciprocal 110 = .ok (.ldc_w 298, 3) := dk_19 1 42 (dk_at dksX4_reciprocal_4 17 rfl rfl)
theorem dX4_reciprocal_113 : decode cX4_reciprocal 113 = .ok (.ireturn, 1) := dk_172 (dk_at dksX4_reciprocal_4 20 rfl rfl)
theorem dX4_reciprocal_114 : decode cX4_reciprocal 114 = .ok (.aload_n 0, 1) := dk_42 (dk_at dksX4_reciprocal_4 21 rfl rfl)
theorem dX4_reciprocal_115 : decode cX4_reciprocal 115 = .ok (.lload_n 3, 1) := dk_33 (dk_at dksX4_reciprocal_4 22 rfl rfl)
theorem dX4_reciprocal_116 : decode cX4_reciprocal 116 = .ok (.lconst 0, 1) := dk_9 (dk_at dksX4_reciprocal_4 23 rfl rfl)
theorem dX4_reciprocal_117 : decode cX4_reciprocal 117 = .ok (.lcmp, 1) := dk_148 (dk_at dksX4_reciprocal_5 0 rfl rfl)
theorem dX4_reciprocal_118 : decode cX4_reciprocal 118 = .ok (.ifCond .ge 11, 3) := dk_156 0 11 (dk_at dksX4_reciprocal_5 1 rfl rfl)
theorem dX4_reciprocal_121 : decode cX4_reciprocal 121 = .ok (.lconst 1, 1) := dk_10 (dk_at dksX4_reciprocal_5 4 rfl rfl)
theorem dX4_reciprocal_122 : decode cX4_reciprocal 122 = .ok (.iload 8, 2) := dk_21 8 (dk_at dksX4_reciprocal_5 5 rfl rfl)
theorem dX4_reciprocal_124 : decode cX4_reciprocal 124 = .ok (.lshl, 1) := dk_121 (dk_at dksX4_reciprocal_5 7 rfl rfl)
theorem dX4_reciprocal_125 : decode cX4_reciprocal 125 = .ok (.lneg, 1) := dk_117 (dk_at dksX4_reciprocal_5 8 rfl rfl)
theorem dX4_reciprocal_126 : decode cX4_reciprocal 126 = .ok (.goto 7, 3) := dk_167 0 7 (dk_at dksX4_reciprocal_5 9 rfl rfl)
theorem dX4_reciprocal_129 : decode cX4_reciprocal 129 = .ok (.lconst 1, 1) := dk_10 (dk_at dksX4_reciprocal_5 12 rfl rfl)
theorem dX4_reciprocal_130 : decode cX4_reciprocal 130 = .ok (.iload 8, 2) := dk_21 8 (dk_at dksX4_reciprocal_5 13 rfl rfl)
theorem dX4_reciprocal_132 : decode cX4_reciprocal 132 = .ok (.lshl, 1) := dk_121 (dk_at dksX4_reciprocal_5 15 rfl rfl)
theorem dX4_reciprocal_133 : decode cX4_reciprocal 133 = .ok (.iload_n 2, 1) := dk_28 (dk_at dksX4_reciprocal_5 16 rfl rfl)
theorem dX4_reciprocal_134 : decode cX4_reciprocal 134 = .ok (.invokevirtual 350, 3) := dk_182 1 94 (dk_at dksX4_reciprocal_5 17 rfl rfl)
theorem dX4_reciprocal_137 : decode cX4_reciprocal 137 = .ok (.ireturn, 1) := dk_172 (dk_at dksX4_reciprocal_5 20 rfl rfl)
abbrev cX4_simplest : ByteArray := prog_18_method_71_code
def yX4_simplest : MethodName := ⟨RX4, "simplest", "(III)I"⟩
def dkwX4_simplest_8 : List UInt8 := [16, 31, 164, 0, 9, 19, 1, 42, 167, 0, 10, 42, 22, 8, 29, 182, 1, 94, 172]
abbrev dktX4_simplest_8 : List UInt8 := dkwX4_simplest_8 ++ []
def dkwX4_simplest_7 : List UInt8 := [101, 167, 0, 12, 22, 8, 22, 10, 97, 20, 0, 237, 109, 55, 8, 132, 14, 1, 167, 255, 153, 21, 14]
abbrev dktX4_simplest_7 : List UInt8 := dkwX4_simplest_7 ++ dktX4_simplest_8
def dkwX4_simplest_6 : List UInt8 := [109, 55, 8, 167, 0, 36, 22, 8, 55, 12, 22, 10, 20, 1, 98, 148, 154, 0, 12, 22, 8, 20, 0, 235]
abbrev dktX4_simplest_6 : List UInt8 := dkwX4_simplest_6 ++ dktX4_simplest_7
def dkwX4_simplest_5 : List UInt8 := [20, 1, 100, 148, 154, 0, 12, 22, 8, 20, 0, 235, 97, 167, 0, 12, 22, 8, 22, 12, 97, 20, 0, 237]
abbrev dktX4_simplest_5 : List UInt8 := dkwX4_simplest_5 ++ dktX4_simplest_6
def dkwX4_simplest_4 : List UInt8 := [155, 0, 93, 21, 14, 16, 31, 163, 0, 86, 22, 8, 22, 4, 148, 157, 0, 39, 22, 8, 55, 10, 22, 12]
abbrev dktX4_simplest_4 : List UInt8 := dkwX4_simplest_4 ++ dktX4_simplest_5
def dkwX4_simplest_3 : List UInt8 := [55, 10, 20, 1, 100, 55, 12, 3, 54, 14, 22, 8, 22, 4, 148, 158, 0, 11, 22, 8, 22, 6, 148]
abbrev dktX4_simplest_3 : List UInt8 := dkwX4_simplest_3 ++ dktX4_simplest_4
def dkwX4_simplest_2 : List UInt8 := [182, 1, 86, 55, 6, 22, 4, 22, 6, 148, 155, 0, 7, 19, 1, 85, 172, 9, 55, 8, 20, 1, 98]
abbrev dktX4_simplest_2 : List UInt8 := dkwX4_simplest_2 ++ dktX4_simplest_3
def dkwX4_simplest_1 : List UInt8 := [153, 0, 11, 42, 28, 182, 1, 82, 154, 0, 7, 19, 1, 85, 172, 42, 27, 182, 1, 86, 55, 4, 42, 28]
abbrev dktX4_simplest_1 : List UInt8 := dkwX4_simplest_1 ++ dktX4_simplest_2
def dkwX4_simplest_0 : List UInt8 := [42, 3, 181, 0, 146, 27, 28, 29, 184, 1, 69, 154, 0, 7, 19, 1, 37, 172, 42, 27, 182, 1, 82]
abbrev dktX4_simplest_0 : List UInt8 := dkwX4_simplest_0 ++ dktX4_simplest_1
theorem dksX4_simplest_0 : cX4_simplest.data.toList.drop 0 = dktX4_simplest_0 := by decide +kernel
theorem dksX4_simplest_1 : cX4_simplest.data.toList.drop 23 = dktX4_simplest_1 := dk_seg dksX4_simplest_0 23 rfl rfl
theorem dksX4_simplest_2 : cX4_simplest.data.toList.drop 47 = dktX4_simplest_2 := dk_seg dksX4_simplest_1 24 rfl rfl
theorem dksX4_simplest_3 : cX4_simplest.data.toList.drop 70 = dktX4_simplest_3 := dk_seg dksX4_simplest_2 23 rfl rfl
theorem dksX4_simplest_4 : cX4_simplest.data.toList.drop 93 = dktX4_simplest_4 := dk_seg dksX4_simplest_3 23 rfl rfl
theorem dksX4_simplest_5 : cX4_simplest.data.toList.drop 117 = dktX4_simplest_5 := dk_seg dksX4_simplest_4 24 rfl rfl
theorem dksX4_simplest_6 : cX4_simplest.data.toList.drop 141 = dktX4_simplest_6 := dk_seg dksX4_simplest_5 24 rfl rfl
theorem dksX4_simplest_7 : cX4_simplest.data.toList.drop 165 = dktX4_simplest_7 := dk_seg dksX4_simplest_6 24 rfl rfl
theorem dksX4_simplest_8 : cX4_simplest.data.toList.drop 188 = dktX4_simplest_8 := dk_seg dksX4_simplest_7 23 rfl rfl
theorem dX4_simplest_0 : decode cX4_simplest 0 = .ok (.aload_n 0, 1) := dk_42 (dk_at dksX4_simplest_0 0 rfl rfl)
theorem dX4_simplest_1 : decode cX4_simplest 1 = .ok (.iconst 0, 1) := dk_3 (dk_at dksX4_simplest_0 1 rfl rfl)
theorem dX4_simplest_2 : decode cX4_simplest 2 = .ok (.putfield 146, 3) := dk_181 0 146 (dk_at dksX4_simplest_0 2 rfl rfl)
theorem dX4_simplest_5 : decode cX4_simplest 5 = .ok (.iload_n 1, 1) := dk_27 (dk_at dksX4_simplest_0 5 rfl rfl)
theorem dX4_simplest_6 : decode cX4_simplest 6 = .ok (.iload_n 2, 1) := dk_28 (dk_at dksX4_simplest_0 6 rfl rfl)
theorem dX4_simplest_7 : decode cX4_simplest 7 = .ok (.iload_n 3, 1) := dk_29 (dk_at dksX4_simplest_0 7 rfl rfl)
theorem dX4_simplest_8 : decode cX4_simplest 8 = .ok (.invokestatic 325, 3) := dk_184 1 69 (dk_at dksX4_simplest_0 8 rfl rfl)
theorem dX4_simplest_11 : decode cX4_simplest 11 = .ok (.ifCond .ne 7, 3) := dk_154 0 7 (dk_at dksX4_simplest_0 11 rfl rfl)
theorem dX4_simplest_14 : decode cX4_simplest 14 = .ok (.ldc_w 293, 3) := dk_19 1 37 (dk_at dksX4_simplest_0 14 rfl rfl)
theorem dX4_simplest_17 : decode cX4_simplest 17 = .ok (.ireturn, 1) := dk_172 (dk_at dksX4_simplest_0 17 rfl rfl)
theorem dX4_simplest_18 : decode cX4_simplest 18 = .ok (.aload_n 0, 1) := dk_42 (dk_at dksX4_simplest_0 18 rfl rfl)
theorem dX4_simplest_19 : decode cX4_simplest 19 = .ok (.iload_n 1, 1) := dk_27 (dk_at dksX4_simplest_0 19 rfl rfl)
theorem dX4_simplest_20 : decode cX4_simplest 20 = .ok (.invokevirtual 338, 3) := dk_182 1 82 (dk_at dksX4_simplest_0 20 rfl rfl)
theorem dX4_simplest_23 : decode cX4_simplest 23 = .ok (.ifCond .eq 11, 3) := dk_153 0 11 (dk_at dksX4_simplest_1 0 rfl rfl)
theorem dX4_simplest_26 : decode cX4_simplest 26 = .ok (.aload_n 0, 1) := dk_42 (dk_at dksX4_simplest_1 3 rfl rfl)
theorem dX4_simplest_27 : decode cX4_simplest 27 = .ok (.iload_n 2, 1) := dk_28 (dk_at dksX4_simplest_1 4 rfl rfl)
theorem dX4_simplest_28 : decode cX4_simplest 28 = .ok (.invokevirtual 338, 3) := dk_182 1 82 (dk_at dksX4_simplest_1 5 rfl rfl)
theorem dX4_simplest_31 : decode cX4_simplest 31 = .ok (.ifCond .ne 7, 3) := dk_154 0 7 (dk_at dksX4_simplest_1 8 rfl rfl)
theorem dX4_simplest_34 : decode cX4_simplest 34 = .ok (.ldc_w 341, 3) := dk_19 1 85 (dk_at dksX4_simplest_1 11 rfl rfl)
theorem dX4_simplest_37 : decode cX4_simplest 37 = .ok (.ireturn, 1) := dk_172 (dk_at dksX4_simplest_1 14 rfl rfl)
theorem dX4_simplest_38 : decode cX4_simplest 38 = .ok (.aload_n 0, 1) := dk_42 (dk_at dksX4_simplest_1 15 rfl rfl)
theorem dX4_simplest_39 : decode cX4_simplest 39 = .ok (.iload_n 1, 1) := dk_27 (dk_at dksX4_simplest_1 16 rfl rfl)
theorem dX4_simplest_40 : decode cX4_simplest 40 = .ok (.invokevirtual 342, 3) := dk_182 1 86 (dk_at dksX4_simplest_1 17 rfl rfl)
theorem dX4_simplest_43 : decode cX4_simplest 43 = .ok (.lstore 4, 2) := dk_55 4 (dk_at dksX4_simplest_1 20 rfl rfl)
theorem dX4_simplest_45 : decode cX4_simplest 45 = .ok (.aload_n 0, 1) := dk_42 (dk_at dksX4_simplest_1 22 rfl rfl)
theorem dX4_simplest_46 : decode cX4_simplest 46 = .ok (.iload_n 2, 1) := dk_28 (dk_at dksX4_simplest_1 23 rfl rfl)
theorem dX4_simplest_47 : decode cX4_simplest 47 = .ok (.invokevirtual 342, 3) := dk_182 1 86 (dk_at dksX4_simplest_2 0 rfl rfl)
theorem dX4_simplest_50 : decode cX4_simplest 50 = .ok (.lstore 6, 2) := dk_55 6 (dk_at dksX4_simplest_2 3 rfl rfl)
theorem dX4_simplest_52 : decode cX4_simplest 52 = .ok (.lload 4, 2) := dk_22 4 (dk_at dksX4_simplest_2 5 rfl rfl)
theorem dX4_simplest_54 : decode cX4_simplest 54 = .ok (.lload 6, 2) := dk_22 6 (dk_at dksX4_simplest_2 7 rfl rfl)
theorem dX4_simplest_56 : decode cX4_simplest 56 = .ok (.lcmp, 1) := dk_148 (dk_at dksX4_simplest_2 9 rfl rfl)
theorem dX4_simplest_57 : decode cX4_simplest 57 = .ok (.ifCond .lt 7, 3) := dk_155 0 7 (dk_at dksX4_simplest_2 10 rfl rfl)
theorem dX4_simplest_60 : decode cX4_simplest 60 = .ok (.ldc_w 341, 3) := dk_19 1 85 (dk_at dksX4_simplest_2 13 rfl rfl)
theorem dX4_simplest_63 : decode cX4_simplest 63 = .ok (.ireturn, 1) := dk_172 (dk_at dksX4_simplest_2 16 rfl rfl)
theorem dX4_simplest_64 : decode cX4_simplest 64 = .ok (.lconst 0, 1) := dk_9 (dk_at dksX4_simplest_2 17 rfl rfl)
theorem dX4_simplest_65 : decode cX4_simplest 65 = .ok (.lstore 8, 2) := dk_55 8 (dk_at dksX4_simplest_2 18 rfl rfl)
theorem dX4_simplest_67 : decode cX4_simplest 67 = .ok (.ldc2_w 354, 3) := dk_20 1 98 (dk_at dksX4_simplest_2 20 rfl rfl)
theorem dX4_simplest_70 : decode cX4_simplest 70 = .ok (.lstore 10, 2) := dk_55 10 (dk_at dksX4_simplest_3 0 rfl rfl)
theorem dX4_simplest_72 : decode cX4_simplest 72 = .ok (.ldc2_w 356, 3) := dk_20 1 100 (dk_at dksX4_simplest_3 2 rfl rfl)
theorem dX4_simplest_75 : decode cX4_simplest 75 = .ok (.lstore 12, 2) := dk_55 12 (dk_at dksX4_simplest_3 5 rfl rfl)
theorem dX4_simplest_77 : decode cX4_simplest 77 = .ok (.iconst 0, 1) := dk_3 (dk_at dksX4_simplest_3 7 rfl rfl)
theorem dX4_simplest_78 : decode cX4_simplest 78 = .ok (.istore 14, 2) := dk_54 14 (dk_at dksX4_simplest_3 8 rfl rfl)
theorem dX4_simplest_80 : decode cX4_simplest 80 = .ok (.lload 8, 2) := dk_22 8 (dk_at dksX4_simplest_3 10 rfl rfl)
theorem dX4_simplest_82 : decode cX4_simplest 82 = .ok (.lload 4, 2) := dk_22 4 (dk_at dksX4_simplest_3 12 rfl rfl)
theorem dX4_simplest_84 : decode cX4_simplest 84 = .ok (.lcmp, 1) := dk_148 (dk_at dksX4_simplest_3 14 rfl rfl)
theorem dX4_simplest_85 : decode cX4_simplest 85 = .ok (.ifCond .le 11, 3) := dk_158 0 11 (dk_at dksX4_simplest_3 15 rfl rfl)
theorem dX4_simplest_88 : decode cX4_simplest 88 = .ok (.lload 8, 2) := dk_22 8 (dk_at dksX4_simplest_3 18 rfl rfl)
theorem dX4_simplest_90 : decode cX4_simplest 90 = .ok (.lload 6, 2) := dk_22 6 (dk_at dksX4_simplest_3 20 rfl rfl)
theorem dX4_simplest_92 : decode cX4_simplest 92 = .ok (.lcmp, 1) := dk_148 (dk_at dksX4_simplest_3 22 rfl rfl)
theorem dX4_simplest_93 : decode cX4_simplest 93 = .ok (.ifCond .lt 93, 3) := dk_155 0 93 (dk_at dksX4_simplest_4 0 rfl rfl)
theorem dX4_simplest_96 : decode cX4_simplest 96 = .ok (.iload 14, 2) := dk_21 14 (dk_at dksX4_simplest_4 3 rfl rfl)
theorem dX4_simplest_98 : decode cX4_simplest 98 = .ok (.bipush 31, 2) := dk_16 31 (dk_at dksX4_simplest_4 5 rfl rfl)
theorem dX4_simplest_100 : decode cX4_simplest 100 = .ok (.if_icmp .gt 86, 3) := dk_163 0 86 (dk_at dksX4_simplest_4 7 rfl rfl)
theorem dX4_simplest_103 : decode cX4_simplest 103 = .ok (.lload 8, 2) := dk_22 8 (dk_at dksX4_simplest_4 10 rfl rfl)
theorem dX4_simplest_105 : decode cX4_simplest 105 = .ok (.lload 4, 2) := dk_22 4 (dk_at dksX4_simplest_4 12 rfl rfl)
theorem dX4_simplest_107 : decode cX4_simplest 107 = .ok (.lcmp, 1) := dk_148 (dk_at dksX4_simplest_4 14 rfl rfl)
theorem dX4_simplest_108 : decode cX4_simplest 108 = .ok (.ifCond .gt 39, 3) := dk_157 0 39 (dk_at dksX4_simplest_4 15 rfl rfl)
theorem dX4_simplest_111 : decode cX4_simplest 111 = .ok (.lload 8, 2) := dk_22 8 (dk_at dksX4_simplest_4 18 rfl rfl)
theorem dX4_simplest_113 : decode cX4_simplest 113 = .ok (.lstore 10, 2) := dk_55 10 (dk_at dksX4_simplest_4 20 rfl rfl)
theorem dX4_simplest_115 : decode cX4_simplest 115 = .ok (.lload 12, 2) := dk_22 12 (dk_at dksX4_simplest_4 22 rfl rfl)
theorem dX4_simplest_117 : decode cX4_simplest 117 = .ok (.ldc2_w 356, 3) := dk_20 1 100 (dk_at dksX4_simplest_5 0 rfl rfl)
theorem dX4_simplest_120 : decode cX4_simplest 120 = .ok (.lcmp, 1) := dk_148 (dk_at dksX4_simplest_5 3 rfl rfl)
theorem dX4_simplest_121 : decode cX4_simplest 121 = .ok (.ifCond .ne 12, 3) := dk_154 0 12 (dk_at dksX4_simplest_5 4 rfl rfl)
theorem dX4_simplest_124 : decode cX4_simplest 124 = .ok (.lload 8, 2) := dk_22 8 (dk_at dksX4_simplest_5 7 rfl rfl)
theorem dX4_simplest_126 : decode cX4_simplest 126 = .ok (.ldc2_w 235, 3) := dk_20 0 235 (dk_at dksX4_simplest_5 9 rfl rfl)
theorem dX4_simplest_129 : decode cX4_simplest 129 = .ok (.ladd, 1) := dk_97 (dk_at dksX4_simplest_5 12 rfl rfl)
theorem dX4_simplest_130 : decode cX4_simplest 130 = .ok (.goto 12, 3) := dk_167 0 12 (dk_at dksX4_simplest_5 13 rfl rfl)
theorem dX4_simplest_133 : decode cX4_simplest 133 = .ok (.lload 8, 2) := dk_22 8 (dk_at dksX4_simplest_5 16 rfl rfl)
theorem dX4_simplest_135 : decode cX4_simplest 135 = .ok (.lload 12, 2) := dk_22 12 (dk_at dksX4_simplest_5 18 rfl rfl)
theorem dX4_simplest_137 : decode cX4_simplest 137 = .ok (.ladd, 1) := dk_97 (dk_at dksX4_simplest_5 20 rfl rfl)
theorem dX4_simplest_138 : decode cX4_simplest 138 = .ok (.ldc2_w 237, 3) := dk_20 0 237 (dk_at dksX4_simplest_5 21 rfl rfl)
theorem dX4_simplest_141 : decode cX4_simplest 141 = .ok (.ldiv, 1) := dk_109 (dk_at dksX4_simplest_6 0 rfl rfl)
theorem dX4_simplest_142 : decode cX4_simplest 142 = .ok (.lstore 8, 2) := dk_55 8 (dk_at dksX4_simplest_6 1 rfl rfl)
theorem dX4_simplest_144 : decode cX4_simplest 144 = .ok (.goto 36, 3) := dk_167 0 36 (dk_at dksX4_simplest_6 3 rfl rfl)
theorem dX4_simplest_147 : decode cX4_simplest 147 = .ok (.lload 8, 2) := dk_22 8 (dk_at dksX4_simplest_6 6 rfl rfl)
theorem dX4_simplest_149 : decode cX4_simplest 149 = .ok (.lstore 12, 2) := dk_55 12 (dk_at dksX4_simplest_6 8 rfl rfl)
theorem dX4_simplest_151 : decode cX4_simplest 151 = .ok (.lload 10, 2) := dk_22 10 (dk_at dksX4_simplest_6 10 rfl rfl)
theorem dX4_simplest_153 : decode cX4_simplest 153 = .ok (.ldc2_w 354, 3) := dk_20 1 98 (dk_at dksX4_simplest_6 12 rfl rfl)
theorem dX4_simplest_156 : decode cX4_simplest 156 = .ok (.lcmp, 1) := dk_148 (dk_at dksX4_simplest_6 15 rfl rfl)
theorem dX4_simplest_157 : decode cX4_simplest 157 = .ok (.ifCond .ne 12, 3) := dk_154 0 12 (dk_at dksX4_simplest_6 16 rfl rfl)
theorem dX4_simplest_160 : decode cX4_simplest 160 = .ok (.lload 8, 2) := dk_22 8 (dk_at dksX4_simplest_6 19 rfl rfl)
theorem dX4_simplest_162 : decode cX4_simplest 162 = .ok (.ldc2_w 235, 3) := dk_20 0 235 (dk_at dksX4_simplest_6 21 rfl rfl)
theorem dX4_simplest_165 : decode cX4_simplest 165 = .ok (.lsub, 1) := dk_101 (dk_at dksX4_simplest_7 0 rfl rfl)
theorem dX4_simplest_166 : decode cX4_simplest 166 = .ok (.goto 12, 3) := dk_167 0 12 (dk_at dksX4_simplest_7 1 rfl rfl)
theorem dX4_simplest_169 : decode cX4_simplest 169 = .ok (.lload 8, 2) := dk_22 8 (dk_at dksX4_simplest_7 4 rfl rfl)
theorem dX4_simplest_171 : decode cX4_simplest 171 = .ok (.lload 10, 2) := dk_22 10 (dk_at dksX4_simplest_7 6 rfl rfl)
theorem dX4_simplest_173 : decode cX4_simplest 173 = .ok (.ladd, 1) := dk_97 (dk_at dksX4_simplest_7 8 rfl rfl)
theorem dX4_simplest_174 : decode cX4_simplest 174 = .ok (.ldc2_w 237, 3) := dk_20 0 237 (dk_at dksX4_simplest_7 9 rfl rfl)
theorem dX4_simplest_177 : decode cX4_simplest 177 = .ok (.ldiv, 1) := dk_109 (dk_at dksX4_simplest_7 12 rfl rfl)
theorem dX4_simplest_178 : decode cX4_simplest 178 = .ok (.lstore 8, 2) := dk_55 8 (dk_at dksX4_simplest_7 13 rfl rfl)
theorem dX4_simplest_180 : decode cX4_simplest 180 = .ok (.iinc 14 1, 3) := dk_132 14 1 (dk_at dksX4_simplest_7 15 rfl rfl)
theorem dX4_simplest_183 : decode cX4_simplest 183 = .ok (.goto (-103), 3) := dk_167 255 153 (dk_at dksX4_simplest_7 18 rfl rfl)
theorem dX4_simplest_186 : decode cX4_simplest 186 = .ok (.iload 14, 2) := dk_21 14 (dk_at dksX4_simplest_7 21 rfl rfl)
theorem dX4_simplest_188 : decode cX4_simplest 188 = .ok (.bipush 31, 2) := dk_16 31 (dk_at dksX4_simplest_8 0 rfl rfl)
theorem dX4_simplest_190 : decode cX4_simplest 190 = .ok (.if_icmp .le 9, 3) := dk_164 0 9 (dk_at dksX4_simplest_8 2 rfl rfl)
theorem dX4_simplest_193 : decode cX4_simplest 193 = .ok (.ldc_w 298, 3) := dk_19 1 42 (dk_at dksX4_simplest_8 5 rfl rfl)
theorem dX4_simplest_196 : decode cX4_simplest 196 = .ok (.goto 10, 3) := dk_167 0 10 (dk_at dksX4_simplest_8 8 rfl rfl)
theorem dX4_simplest_199 : decode cX4_simplest 199 = .ok (.aload_n 0, 1) := dk_42 (dk_at dksX4_simplest_8 11 rfl rfl)
theorem dX4_simplest_200 : decode cX4_simplest 200 = .ok (.lload 8, 2) := dk_22 8 (dk_at dksX4_simplest_8 12 rfl rfl)
theorem dX4_simplest_202 : decode cX4_simplest 202 = .ok (.iload_n 3, 1) := dk_29 (dk_at dksX4_simplest_8 14 rfl rfl)
theorem dX4_simplest_203 : decode cX4_simplest 203 = .ok (.invokevirtual 350, 3) := dk_182 1 94 (dk_at dksX4_simplest_8 15 rfl rfl)
theorem dX4_simplest_206 : decode cX4_simplest 206 = .ok (.ireturn, 1) := dk_172 (dk_at dksX4_simplest_8 18 rfl rfl)
abbrev cX4_appendSign : ByteArray := prog_18_method_72_code
def yX4_appendSign : MethodName := ⟨RX4, "appendSign", "(I)I"⟩
def dkwX4_appendSign_2 : List UInt8 := [181, 1, 102, 42, 180, 1, 102, 172]
abbrev dktX4_appendSign_2 : List UInt8 := dkwX4_appendSign_2 ++ []
def dkwX4_appendSign_1 : List UInt8 := [160, 0, 7, 19, 1, 53, 172, 42, 180, 0, 22, 42, 180, 1, 102, 27, 79, 42, 89, 180, 1, 102, 4, 96]
abbrev dktX4_appendSign_1 : List UInt8 := dkwX4_appendSign_1 ++ dktX4_appendSign_2
def dkwX4_appendSign_0 : List UInt8 := [42, 3, 181, 0, 146, 27, 3, 4, 184, 0, 153, 154, 0, 7, 19, 1, 37, 172, 42, 180, 1, 102, 16, 31]
abbrev dktX4_appendSign_0 : List UInt8 := dkwX4_appendSign_0 ++ dktX4_appendSign_1
theorem dksX4_appendSign_0 : cX4_appendSign.data.toList.drop 0 = dktX4_appendSign_0 := by decide +kernel
theorem dksX4_appendSign_1 : cX4_appendSign.data.toList.drop 24 = dktX4_appendSign_1 := dk_seg dksX4_appendSign_0 24 rfl rfl
theorem dksX4_appendSign_2 : cX4_appendSign.data.toList.drop 48 = dktX4_appendSign_2 := dk_seg dksX4_appendSign_1 24 rfl rfl
theorem dX4_appendSign_0 : decode cX4_appendSign 0 = .ok (.aload_n 0, 1) := dk_42 (dk_at dksX4_appendSign_0 0 rfl rfl)
theorem dX4_appendSign_1 : decode cX4_appendSign 1 = .ok (.iconst 0, 1) := dk_3 (dk_at dksX4_appendSign_0 1 rfl rfl)
theorem dX4_appendSign_2 : decode cX4_appendSign 2 = .ok (.putfield 146, 3) := dk_181 0 146 (dk_at dksX4_appendSign_0 2 rfl rfl)
theorem dX4_appendSign_5 : decode cX4_appendSign 5 = .ok (.iload_n 1, 1) := dk_27 (dk_at dksX4_appendSign_0 5 rfl rfl)
theorem dX4_appendSign_6 : decode cX4_appendSign 6 = .ok (.iconst 0, 1) := dk_3 (dk_at dksX4_appendSign_0 6 rfl rfl)
theorem dX4_appendSign_7 : decode cX4_appendSign 7 = .ok (.iconst 1, 1) := dk_4 (dk_at dksX4_appendSign_0 7 rfl rfl)
theorem dX4_appendSign_8 : decode cX4_appendSign 8 = .ok (.invokestatic 153, 3) := dk_184 0 153 (dk_at dksX4_appendSign_0 8 rfl rfl)
theorem dX4_appendSign_11 : decode cX4_appendSign 11 = .ok (.ifCond .ne 7, 3) := dk_154 0 7 (dk_at dksX4_appendSign_0 11 rfl rfl)
theorem dX4_appendSign_14 : decode cX4_appendSign 14 = .ok (.ldc_w 293, 3) := dk_19 1 37 (dk_at dksX4_appendSign_0 14 rfl rfl)
theorem dX4_appendSign_17 : decode cX4_appendSign 17 = .ok (.ireturn, 1) := dk_172 (dk_at dksX4_appendSign_0 17 rfl rfl)
theorem dX4_appendSign_18 : decode cX4_appendSign 18 = .ok (.aload_n 0, 1) := dk_42 (dk_at dksX4_appendSign_0 18 rfl rfl)
theorem dX4_appendSign_19 : decode cX4_appendSign 19 = .ok (.getfield 358, 3) := dk_180 1 102 (dk_at dksX4_appendSign_0 19 rfl rfl)
theorem dX4_appendSign_22 : decode cX4_appendSign 22 = .ok (.bipush 31, 2) := dk_16 31 (dk_at dksX4_appendSign_0 22 rfl rfl)
theorem dX4_appendSign_24 : decode cX4_appendSign 24 = .ok (.if_icmp .ne 7, 3) := dk_160 0 7 (dk_at dksX4_appendSign_1 0 rfl rfl)
theorem dX4_appendSign_27 : decode cX4_appendSign 27 = .ok (.ldc_w 309, 3) := dk_19 1 53 (dk_at dksX4_appendSign_1 3 rfl rfl)
theorem dX4_appendSign_30 : decode cX4_appendSign 30 = .ok (.ireturn, 1) := dk_172 (dk_at dksX4_appendSign_1 6 rfl rfl)
theorem dX4_appendSign_31 : decode cX4_appendSign 31 = .ok (.aload_n 0, 1) := dk_42 (dk_at dksX4_appendSign_1 7 rfl rfl)
theorem dX4_appendSign_32 : decode cX4_appendSign 32 = .ok (.getfield 22, 3) := dk_180 0 22 (dk_at dksX4_appendSign_1 8 rfl rfl)
theorem dX4_appendSign_35 : decode cX4_appendSign 35 = .ok (.aload_n 0, 1) := dk_42 (dk_at dksX4_appendSign_1 11 rfl rfl)
theorem dX4_appendSign_36 : decode cX4_appendSign 36 = .ok (.getfield 358, 3) := dk_180 1 102 (dk_at dksX4_appendSign_1 12 rfl rfl)
theorem dX4_appendSign_39 : decode cX4_appendSign 39 = .ok (.iload_n 1, 1) := dk_27 (dk_at dksX4_appendSign_1 15 rfl rfl)
theorem dX4_appendSign_40 : decode cX4_appendSign 40 = .ok (.iastore, 1) := dk_79 (dk_at dksX4_appendSign_1 16 rfl rfl)
theorem dX4_appendSign_41 : decode cX4_appendSign 41 = .ok (.aload_n 0, 1) := dk_42 (dk_at dksX4_appendSign_1 17 rfl rfl)
theorem dX4_appendSign_42 : decode cX4_appendSign 42 = .ok (.dup, 1) := dk_89 (dk_at dksX4_appendSign_1 18 rfl rfl)
theorem dX4_appendSign_43 : decode cX4_appendSign 43 = .ok (.getfield 358, 3) := dk_180 1 102 (dk_at dksX4_appendSign_1 19 rfl rfl)
theorem dX4_appendSign_46 : decode cX4_appendSign 46 = .ok (.iconst 1, 1) := dk_4 (dk_at dksX4_appendSign_1 22 rfl rfl)
theorem dX4_appendSign_47 : decode cX4_appendSign 47 = .ok (.iadd, 1) := dk_96 (dk_at dksX4_appendSign_1 23 rfl rfl)
theorem dX4_appendSign_48 : decode cX4_appendSign 48 = .ok (.putfield 358, 3) := dk_181 1 102 (dk_at dksX4_appendSign_2 0 rfl rfl)
theorem dX4_appendSign_51 : decode cX4_appendSign 51 = .ok (.aload_n 0, 1) := dk_42 (dk_at dksX4_appendSign_2 3 rfl rfl)
theorem dX4_appendSign_52 : decode cX4_appendSign 52 = .ok (.getfield 358, 3) := dk_180 1 102 (dk_at dksX4_appendSign_2 4 rfl rfl)
theorem dX4_appendSign_55 : decode cX4_appendSign 55 = .ok (.ireturn, 1) := dk_172 (dk_at dksX4_appendSign_2 7 rfl rfl)
abbrev cX4_makeSigns : ByteArray := prog_18_method_73_code
def yX4_makeSigns : MethodName := ⟨RX4, "makeSigns", "(I)I"⟩
def dkwX4_makeSigns_7 : List UInt8 := [172]
abbrev dktX4_makeSigns_7 : List UInt8 := dkwX4_makeSigns_7 ++ []
def dkwX4_makeSigns_6 : List UInt8 := [132, 4, 1, 167, 255, 161, 42, 27, 182, 1, 43, 42, 3, 181, 1, 102, 42, 180, 0, 82, 3, 46, 4, 100]
abbrev dktX4_makeSigns_6 : List UInt8 := dkwX4_makeSigns_6 ++ dktX4_makeSigns_7
def dkwX4_makeSigns_5 : List UInt8 := [42, 180, 0, 82, 7, 5, 21, 4, 104, 96, 29, 18, 195, 160, 0, 7, 3, 167, 0, 6, 4, 29, 120, 79]
abbrev dktX4_makeSigns_5 : List UInt8 := dkwX4_makeSigns_5 ++ dktX4_makeSigns_6
def dkwX4_makeSigns_4 : List UInt8 := [42, 180, 0, 82, 6, 5, 21, 4, 104, 96, 28, 18, 195, 160, 0, 7, 3, 167, 0, 6, 4, 28, 120, 79]
abbrev dktX4_makeSigns_4 : List UInt8 := dkwX4_makeSigns_4 ++ dktX4_makeSigns_5
def dkwX4_makeSigns_3 : List UInt8 := [21, 4, 167, 0, 4, 28, 61, 42, 180, 0, 22, 21, 4, 46, 154, 0, 8, 21, 4, 167, 0, 4, 29, 62]
abbrev dktX4_makeSigns_3 : List UInt8 := dkwX4_makeSigns_3 ++ dktX4_makeSigns_4
def dkwX4_makeSigns_2 : List UInt8 := [79, 3, 54, 4, 21, 4, 42, 180, 1, 102, 162, 0, 92, 42, 180, 0, 22, 21, 4, 46, 4, 160, 0, 8]
abbrev dktX4_makeSigns_2 : List UInt8 := dkwX4_makeSigns_2 ++ dktX4_makeSigns_3
def dkwX4_makeSigns_1 : List UInt8 := [180, 0, 82, 3, 42, 180, 1, 102, 4, 96, 79, 42, 180, 0, 82, 4, 3, 79, 42, 180, 0, 82, 5, 3]
abbrev dktX4_makeSigns_1 : List UInt8 := dkwX4_makeSigns_1 ++ dktX4_makeSigns_2
def dkwX4_makeSigns_0 : List UInt8 := [42, 3, 181, 0, 146, 27, 184, 1, 34, 154, 0, 7, 19, 1, 37, 172, 18, 195, 61, 18, 195, 62, 42]
abbrev dktX4_makeSigns_0 : List UInt8 := dkwX4_makeSigns_0 ++ dktX4_makeSigns_1
theorem dksX4_makeSigns_0 : cX4_makeSigns.data.toList.drop 0 = dktX4_makeSigns_0 := by decide +kernel
theorem dksX4_makeSigns_1 : cX4_makeSigns.data.toList.drop 23 = dktX4_makeSigns_1 := dk_seg dksX4_makeSigns_0 23 rfl rfl
theorem dksX4_makeSigns_2 : cX4_makeSigns.data.toList.drop 47 = dktX4_makeSigns_2 := dk_seg dksX4_makeSigns_1 24 rfl rfl
theorem dksX4_makeSigns_3 : cX4_makeSigns.data.toList.drop 71 = dktX4_makeSigns_3 := dk_seg dksX4_makeSigns_2 24 rfl rfl
theorem dksX4_makeSigns_4 : cX4_makeSigns.data.toList.drop 95 = dktX4_makeSigns_4 := dk_seg dksX4_makeSigns_3 24 rfl rfl
theorem dksX4_makeSigns_5 : cX4_makeSigns.data.toList.drop 119 = dktX4_makeSigns_5 := dk_seg dksX4_makeSigns_4 24 rfl rfl
theorem dksX4_makeSigns_6 : cX4_makeSigns.data.toList.drop 143 = dktX4_makeSigns_6 := dk_seg dksX4_makeSigns_5 24 rfl rfl
theorem dksX4_makeSigns_7 : cX4_makeSigns.data.toList.drop 167 = dktX4_makeSigns_7 := dk_seg dksX4_makeSigns_6 24 rfl rfl
theorem dX4_makeSigns_0 : decode cX4_makeSigns 0 = .ok (.aload_n 0, 1) := dk_42 (dk_at dksX4_makeSigns_0 0 rfl rfl)
theorem dX4_makeSigns_1 : decode cX4_makeSigns 1 = .ok (.iconst 0, 1) := dk_3 (dk_at dksX4_makeSigns_0 1 rfl rfl)
theorem dX4_makeSigns_2 : decode cX4_makeSigns 2 = .ok (.putfield 146, 3) := dk_181 0 146 (dk_at dksX4_makeSigns_0 2 rfl rfl)
theorem dX4_makeSigns_5 : decode cX4_makeSigns 5 = .ok (.iload_n 1, 1) := dk_27 (dk_at dksX4_makeSigns_0 5 rfl rfl)
theorem dX4_makeSigns_6 : decode cX4_makeSigns 6 = .ok (.invokestatic 290, 3) := dk_184 1 34 (dk_at dksX4_makeSigns_0 6 rfl rfl)
theorem dX4_makeSigns_9 : decode cX4_makeSigns 9 = .ok (.ifCond .ne 7, 3) := dk_154 0 7 (dk_at dksX4_makeSigns_0 9 rfl rfl)
theorem dX4_makeSigns_12 : decode cX4_makeSigns 12 = .ok (.ldc_w 293, 3) := dk_19 1 37 (dk_at dksX4_makeSigns_0 12 rfl rfl)
theorem dX4_makeSigns_15 : decode cX4_makeSigns 15 = .ok (.ireturn, 1) := dk_172 (dk_at dksX4_makeSigns_0 15 rfl rfl)
theorem dX4_makeSigns_16 : decode cX4_makeSigns 16 = .ok (.ldc 195, 2) := dk_18 195 (dk_at dksX4_makeSigns_0 16 rfl rfl)
theorem dX4_makeSigns_18 : decode cX4_makeSigns 18 = .ok (.istore_n 2, 1) := dk_61 (dk_at dksX4_makeSigns_0 18 rfl rfl)
theorem dX4_makeSigns_19 : decode cX4_makeSigns 19 = .ok (.ldc 195, 2) := dk_18 195 (dk_at dksX4_makeSigns_0 19 rfl rfl)
theorem dX4_makeSigns_21 : decode cX4_makeSigns 21 = .ok (.istore_n 3, 1) := dk_62 (dk_at dksX4_makeSigns_0 21 rfl rfl)
theorem dX4_makeSigns_22 : decode cX4_makeSigns 22 = .ok (.aload_n 0, 1) := dk_42 (dk_at dksX4_makeSigns_0 22 rfl rfl)
theorem dX4_makeSigns_23 : decode cX4_makeSigns 23 = .ok (.getfield 82, 3) := dk_180 0 82 (dk_at dksX4_makeSigns_1 0 rfl rfl)
theorem dX4_makeSigns_26 : decode cX4_makeSigns 26 = .ok (.iconst 0, 1) := dk_3 (dk_at dksX4_makeSigns_1 3 rfl rfl)
theorem dX4_makeSigns_27 : decode cX4_makeSigns 27 = .ok (.aload_n 0, 1) := dk_42 (dk_at dksX4_makeSigns_1 4 rfl rfl)
theorem dX4_makeSigns_28 : decode cX4_makeSigns 28 = .ok (.getfield 358, 3) := dk_180 1 102 (dk_at dksX4_makeSigns_1 5 rfl rfl)
theorem dX4_makeSigns_31 : decode cX4_makeSigns 31 = .ok (.iconst 1, 1) := dk_4 (dk_at dksX4_makeSigns_1 8 rfl rfl)
theorem dX4_makeSigns_32 : decode cX4_makeSigns 32 = .ok (.iadd, 1) := dk_96 (dk_at dksX4_makeSigns_1 9 rfl rfl)
theorem dX4_makeSigns_33 : decode cX4_makeSigns 33 = .ok (.iastore, 1) := dk_79 (dk_at dksX4_makeSigns_1 10 rfl rfl)
theorem dX4_makeSigns_34 : decode cX4_makeSigns 34 = .ok (.aload_n 0, 1) := dk_42 (dk_at dksX4_makeSigns_1 11 rfl rfl)
theorem dX4_makeSigns_35 : decode cX4_makeSigns 35 = .ok (.getfield 82, 3) := dk_180 0 82 (dk_at dksX4_makeSigns_1 12 rfl rfl)
theorem dX4_makeSigns_38 : decode cX4_makeSigns 38 = .ok (.iconst 1, 1) := dk_4 (dk_at dksX4_makeSigns_1 15 rfl rfl)
theorem dX4_makeSigns_39 : decode cX4_makeSigns 39 = .ok (.iconst 0, 1) := dk_3 (dk_at dksX4_makeSigns_1 16 rfl rfl)
theorem dX4_makeSigns_40 : decode cX4_makeSigns 40 = .ok (.iastore, 1) := dk_79 (dk_at dksX4_makeSigns_1 17 rfl rfl)
theorem dX4_makeSigns_41 : decode cX4_makeSigns 41 = .ok (.aload_n 0, 1) := dk_42 (dk_at dksX4_makeSigns_1 18 rfl rfl)
theorem dX4_makeSigns_42 : decode cX4_makeSigns 42 = .ok (.getfield 82, 3) := dk_180 0 82 (dk_at dksX4_makeSigns_1 19 rfl rfl)
theorem dX4_makeSigns_45 : decode cX4_makeSigns 45 = .ok (.iconst 2, 1) := dk_5 (dk_at dksX4_makeSigns_1 22 rfl rfl)
theorem dX4_makeSigns_46 : decode cX4_makeSigns 46 = .ok (.iconst 0, 1) := dk_3 (dk_at dksX4_makeSigns_1 23 rfl rfl)
theorem dX4_makeSigns_47 : decode cX4_makeSigns 47 = .ok (.iastore, 1) := dk_79 (dk_at dksX4_makeSigns_2 0 rfl rfl)
theorem dX4_makeSigns_48 : decode cX4_makeSigns 48 = .ok (.iconst 0, 1) := dk_3 (dk_at dksX4_makeSigns_2 1 rfl rfl)
theorem dX4_makeSigns_49 : decode cX4_makeSigns 49 = .ok (.istore 4, 2) := dk_54 4 (dk_at dksX4_makeSigns_2 2 rfl rfl)
theorem dX4_makeSigns_51 : decode cX4_makeSigns 51 = .ok (.iload 4, 2) := dk_21 4 (dk_at dksX4_makeSigns_2 4 rfl rfl)
theorem dX4_makeSigns_53 : decode cX4_makeSigns 53 = .ok (.aload_n 0, 1) := dk_42 (dk_at dksX4_makeSigns_2 6 rfl rfl)
theorem dX4_makeSigns_54 : decode cX4_makeSigns 54 = .ok (.getfield 358, 3) := dk_180 1 102 (dk_at dksX4_makeSigns_2 7 rfl rfl)
theorem dX4_makeSigns_57 : decode cX4_makeSigns 57 = .ok (.if_icmp .ge 92, 3) := dk_162 0 92 (dk_at dksX4_makeSigns_2 10 rfl rfl)
theorem dX4_makeSigns_60 : decode cX4_makeSigns 60 = .ok (.aload_n 0, 1) := dk_42 (dk_at dksX4_makeSigns_2 13 rfl rfl)
theorem dX4_makeSigns_61 : decode cX4_makeSigns 61 = .ok (.getfield 22, 3) := dk_180 0 22 (dk_at dksX4_makeSigns_2 14 rfl rfl)
theorem dX4_makeSigns_64 : decode cX4_makeSigns 64 = .ok (.iload 4, 2) := dk_21 4 (dk_at dksX4_makeSigns_2 17 rfl rfl)
theorem dX4_makeSigns_66 : decode cX4_makeSigns 66 = .ok (.iaload, 1) := dk_46 (dk_at dksX4_makeSigns_2 19 rfl rfl)
theorem dX4_makeSigns_67 : decode cX4_makeSigns 67 = .ok (.iconst 1, 1) := dk_4 (dk_at dksX4_makeSigns_2 20 rfl rfl)
theorem dX4_makeSigns_68 : decode cX4_makeSigns 68 = .ok (.if_icmp .ne 8, 3) := dk_160 0 8 (dk_at dksX4_makeSigns_2 21 rfl rfl)
theorem dX4_makeSigns_71 : decode cX4_makeSigns 71 = .ok (.iload 4, 2) := dk_21 4 (dk_at dksX4_makeSigns_3 0 rfl rfl)
theorem dX4_makeSigns_73 : decode cX4_makeSigns 73 = .ok (.goto 4, 3) := dk_167 0 4 (dk_at dksX4_makeSigns_3 2 rfl rfl)
theorem dX4_makeSigns_76 : decode cX4_makeSigns 76 = .ok (.iload_n 2, 1) := dk_28 (dk_at dksX4_makeSigns_3 5 rfl rfl)
theorem dX4_makeSigns_77 : decode cX4_makeSigns 77 = .ok (.istore_n 2, 1) := dk_61 (dk_at dksX4_makeSigns_3 6 rfl rfl)
theorem dX4_makeSigns_78 : decode cX4_makeSigns 78 = .ok (.aload_n 0, 1) := dk_42 (dk_at dksX4_makeSigns_3 7 rfl rfl)
theorem dX4_makeSigns_79 : decode cX4_makeSigns 79 = .ok (.getfield 22, 3) := dk_180 0 22 (dk_at dksX4_makeSigns_3 8 rfl rfl)
theorem dX4_makeSigns_82 : decode cX4_makeSigns 82 = .ok (.iload 4, 2) := dk_21 4 (dk_at dksX4_makeSigns_3 11 rfl rfl)
theorem dX4_makeSigns_84 : decode cX4_makeSigns 84 = .ok (.iaload, 1) := dk_46 (dk_at dksX4_makeSigns_3 13 rfl rfl)
theorem dX4_makeSigns_85 : decode cX4_makeSigns 85 = .ok (.ifCond .ne 8, 3) := dk_154 0 8 (dk_at dksX4_makeSigns_3 14 rfl rfl)
theorem dX4_makeSigns_88 : decode cX4_makeSigns 88 = .ok (.iload 4, 2) := dk_21 4 (dk_at dksX4_makeSigns_3 17 rfl rfl)
theorem dX4_makeSigns_90 : decode cX4_makeSigns 90 = .ok (.goto 4, 3) := dk_167 0 4 (dk_at dksX4_makeSigns_3 19 rfl rfl)
theorem dX4_makeSigns_93 : decode cX4_makeSigns 93 = .ok (.iload_n 3, 1) := dk_29 (dk_at dksX4_makeSigns_3 22 rfl rfl)
theorem dX4_makeSigns_94 : decode cX4_makeSigns 94 = .ok (.istore_n 3, 1) := dk_62 (dk_at dksX4_makeSigns_3 23 rfl rfl)
theorem dX4_makeSigns_95 : decode cX4_makeSigns 95 = .ok (.aload_n 0, 1) := dk_42 (dk_at dksX4_makeSigns_4 0 rfl rfl)
theorem dX4_makeSigns_96 : decode cX4_makeSigns 96 = .ok (.getfield 82, 3) := dk_180 0 82 (dk_at dksX4_makeSigns_4 1 rfl rfl)
theorem dX4_makeSigns_99 : decode cX4_makeSigns 99 = .ok (.iconst 3, 1) := dk_6 (dk_at dksX4_makeSigns_4 4 rfl rfl)
theorem dX4_makeSigns_100 : decode cX4_makeSigns 100 = .ok (.iconst 2, 1) := dk_5 (dk_at dksX4_makeSigns_4 5 rfl rfl)
theorem dX4_makeSigns_101 : decode cX4_makeSigns 101 = .ok (.iload 4, 2) := dk_21 4 (dk_at dksX4_makeSigns_4 6 rfl rfl)
theorem dX4_makeSigns_103 : decode cX4_makeSigns 103 = .ok (.imul, 1) := dk_104 (dk_at dksX4_makeSigns_4 8 rfl rfl)
theorem dX4_makeSigns_104 : decode cX4_makeSigns 104 = .ok (.iadd, 1) := dk_96 (dk_at dksX4_makeSigns_4 9 rfl rfl)
theorem dX4_makeSigns_105 : decode cX4_makeSigns 105 = .ok (.iload_n 2, 1) := dk_28 (dk_at dksX4_makeSigns_4 10 rfl rfl)
theorem dX4_makeSigns_106 : decode cX4_makeSigns 106 = .ok (.ldc 195, 2) := dk_18 195 (dk_at dksX4_makeSigns_4 11 rfl rfl)
theorem dX4_makeSigns_108 : decode cX4_makeSigns 108 = .ok (.if_icmp .ne 7, 3) := dk_160 0 7 (dk_at dksX4_makeSigns_4 13 rfl rfl)
theorem dX4_makeSigns_111 : decode cX4_makeSigns 111 = .ok (.iconst 0, 1) := dk_3 (dk_at dksX4_makeSigns_4 16 rfl rfl)
theorem dX4_makeSigns_112 : decode cX4_makeSigns 112 = .ok (.goto 6, 3) := dk_167 0 6 (dk_at dksX4_makeSigns_4 17 rfl rfl)
theorem dX4_makeSigns_115 : decode cX4_makeSigns 115 = .ok (.iconst 1, 1) := dk_4 (dk_at dksX4_makeSigns_4 20 rfl rfl)
theorem dX4_makeSigns_116 : decode cX4_makeSigns 116 = .ok (.iload_n 2, 1) := dk_28 (dk_at dksX4_makeSigns_4 21 rfl rfl)
theorem dX4_makeSigns_117 : decode cX4_makeSigns 117 = .ok (.ishl, 1) := dk_120 (dk_at dksX4_makeSigns_4 22 rfl rfl)
theorem dX4_makeSigns_118 : decode cX4_makeSigns 118 = .ok (.iastore, 1) := dk_79 (dk_at dksX4_makeSigns_4 23 rfl rfl)
theorem dX4_makeSigns_119 : decode cX4_makeSigns 119 = .ok (.aload_n 0, 1) := dk_42 (dk_at dksX4_makeSigns_5 0 rfl rfl)
theorem dX4_makeSigns_120 : decode cX4_makeSigns 120 = .ok (.getfield 82, 3) := dk_180 0 82 (dk_at dksX4_makeSigns_5 1 rfl rfl)
theorem dX4_makeSigns_123 : decode cX4_makeSigns 123 = .ok (.iconst 4, 1) := dk_7 (dk_at dksX4_makeSigns_5 4 rfl rfl)
theorem dX4_makeSigns_124 : decode cX4_makeSigns 124 = .ok (.iconst 2, 1) := dk_5 (dk_at dksX4_makeSigns_5 5 rfl rfl)
theorem dX4_makeSigns_125 : decode cX4_makeSigns 125 = .ok (.iload 4, 2) := dk_21 4 (dk_at dksX4_makeSigns_5 6 rfl rfl)
theorem dX4_makeSigns_127 : decode cX4_makeSigns 127 = .ok (.imul, 1) := dk_104 (dk_at dksX4_makeSigns_5 8 rfl rfl)
theorem dX4_makeSigns_128 : decode cX4_makeSigns 128 = .ok (.iadd, 1) := dk_96 (dk_at dksX4_makeSigns_5 9 rfl rfl)
theorem dX4_makeSigns_129 : decode cX4_makeSigns 129 = .ok (.iload_n 3, 1) := dk_29 (dk_at dksX4_makeSigns_5 10 rfl rfl)
theorem dX4_makeSigns_130 : decode cX4_makeSigns 130 = .ok (.ldc 195, 2) := dk_18 195 (dk_at dksX4_makeSigns_5 11 rfl rfl)
theorem dX4_makeSigns_132 : decode cX4_makeSigns 132 = .ok (.if_icmp .ne 7, 3) := dk_160 0 7 (dk_at dksX4_makeSigns_5 13 rfl rfl)
theorem dX4_makeSigns_135 : decode cX4_makeSigns 135 = .ok (.iconst 0, 1) := dk_3 (dk_at dksX4_makeSigns_5 16 rfl rfl)
theorem dX4_makeSigns_136 : decode cX4_makeSigns 136 = .ok (.goto 6, 3) := dk_167 0 6 (dk_at dksX4_makeSigns_5 17 rfl rfl)
theorem dX4_makeSigns_139 : decode cX4_makeSigns 139 = .ok (.iconst 1, 1) := dk_4 (dk_at dksX4_makeSigns_5 20 rfl rfl)
theorem dX4_makeSigns_140 : decode cX4_makeSigns 140 = .ok (.iload_n 3, 1) := dk_29 (dk_at dksX4_makeSigns_5 21 rfl rfl)
theorem dX4_makeSigns_141 : decode cX4_makeSigns 141 = .ok (.ishl, 1) := dk_120 (dk_at dksX4_makeSigns_5 22 rfl rfl)
theorem dX4_makeSigns_142 : decode cX4_makeSigns 142 = .ok (.iastore, 1) := dk_79 (dk_at dksX4_makeSigns_5 23 rfl rfl)
theorem dX4_makeSigns_143 : decode cX4_makeSigns 143 = .ok (.iinc 4 1, 3) := dk_132 4 1 (dk_at dksX4_makeSigns_6 0 rfl rfl)
theorem dX4_makeSigns_146 : decode cX4_makeSigns 146 = .ok (.goto (-95), 3) := dk_167 255 161 (dk_at dksX4_makeSigns_6 3 rfl rfl)
theorem dX4_makeSigns_149 : decode cX4_makeSigns 149 = .ok (.aload_n 0, 1) := dk_42 (dk_at dksX4_makeSigns_6 6 rfl rfl)
theorem dX4_makeSigns_150 : decode cX4_makeSigns 150 = .ok (.iload_n 1, 1) := dk_27 (dk_at dksX4_makeSigns_6 7 rfl rfl)
theorem dX4_makeSigns_151 : decode cX4_makeSigns 151 = .ok (.invokevirtual 299, 3) := dk_182 1 43 (dk_at dksX4_makeSigns_6 8 rfl rfl)
theorem dX4_makeSigns_154 : decode cX4_makeSigns 154 = .ok (.aload_n 0, 1) := dk_42 (dk_at dksX4_makeSigns_6 11 rfl rfl)
theorem dX4_makeSigns_155 : decode cX4_makeSigns 155 = .ok (.iconst 0, 1) := dk_3 (dk_at dksX4_makeSigns_6 12 rfl rfl)
theorem dX4_makeSigns_156 : decode cX4_makeSigns 156 = .ok (.putfield 358, 3) := dk_181 1 102 (dk_at dksX4_makeSigns_6 13 rfl rfl)
theorem dX4_makeSigns_159 : decode cX4_makeSigns 159 = .ok (.aload_n 0, 1) := dk_42 (dk_at dksX4_makeSigns_6 16 rfl rfl)
theorem dX4_makeSigns_160 : decode cX4_makeSigns 160 = .ok (.getfield 82, 3) := dk_180 0 82 (dk_at dksX4_makeSigns_6 17 rfl rfl)
theorem dX4_makeSigns_163 : decode cX4_makeSigns 163 = .ok (.iconst 0, 1) := dk_3 (dk_at dksX4_makeSigns_6 20 rfl rfl)
theorem dX4_makeSigns_164 : decode cX4_makeSigns 164 = .ok (.iaload, 1) := dk_46 (dk_at dksX4_makeSigns_6 21 rfl rfl)
theorem dX4_makeSigns_165 : decode cX4_makeSigns 165 = .ok (.iconst 1, 1) := dk_4 (dk_at dksX4_makeSigns_6 22 rfl rfl)
theorem dX4_makeSigns_166 : decode cX4_makeSigns 166 = .ok (.isub, 1) := dk_100 (dk_at dksX4_makeSigns_6 23 rfl rfl)
theorem dX4_makeSigns_167 : decode cX4_makeSigns 167 = .ok (.ireturn, 1) := dk_172 (dk_at dksX4_makeSigns_7 0 rfl rfl)
abbrev cX4_sign : ByteArray := prog_18_method_74_code
def yX4_sign : MethodName := ⟨RX4, "sign", "(II)I"⟩
def dkwX4_sign_3 : List UInt8 := [172]
abbrev dktX4_sign_3 : List UInt8 := dkwX4_sign_3 ++ []
def dkwX4_sign_2 : List UInt8 := [161, 0, 8, 18, 195, 167, 0, 19, 42, 180, 0, 9, 29, 6, 96, 5, 28, 104, 96, 46, 28, 122, 4, 126]
abbrev dktX4_sign_2 : List UInt8 := dkwX4_sign_2 ++ dktX4_sign_3
def dkwX4_sign_1 : List UInt8 := [182, 1, 82, 154, 0, 7, 19, 1, 85, 172, 16, 65, 27, 104, 62, 28, 42, 180, 0, 9, 29, 46, 4, 100]
abbrev dktX4_sign_1 : List UInt8 := dkwX4_sign_1 ++ dktX4_sign_2
def dkwX4_sign_0 : List UInt8 := [42, 3, 181, 0, 146, 27, 184, 1, 34, 153, 0, 7, 28, 156, 0, 7, 19, 1, 37, 172, 42, 27]
abbrev dktX4_sign_0 : List UInt8 := dkwX4_sign_0 ++ dktX4_sign_1
theorem dksX4_sign_0 : cX4_sign.data.toList.drop 0 = dktX4_sign_0 := by decide +kernel
theorem dksX4_sign_1 : cX4_sign.data.toList.drop 22 = dktX4_sign_1 := dk_seg dksX4_sign_0 22 rfl rfl
theorem dksX4_sign_2 : cX4_sign.data.toList.drop 46 = dktX4_sign_2 := dk_seg dksX4_sign_1 24 rfl rfl
theorem dksX4_sign_3 : cX4_sign.data.toList.drop 70 = dktX4_sign_3 := dk_seg dksX4_sign_2 24 rfl rfl
theorem dX4_sign_0 : decode cX4_sign 0 = .ok (.aload_n 0, 1) := dk_42 (dk_at dksX4_sign_0 0 rfl rfl)
theorem dX4_sign_1 : decode cX4_sign 1 = .ok (.iconst 0, 1) := dk_3 (dk_at dksX4_sign_0 1 rfl rfl)
theorem dX4_sign_2 : decode cX4_sign 2 = .ok (.putfield 146, 3) := dk_181 0 146 (dk_at dksX4_sign_0 2 rfl rfl)
theorem dX4_sign_5 : decode cX4_sign 5 = .ok (.iload_n 1, 1) := dk_27 (dk_at dksX4_sign_0 5 rfl rfl)
theorem dX4_sign_6 : decode cX4_sign 6 = .ok (.invokestatic 290, 3) := dk_184 1 34 (dk_at dksX4_sign_0 6 rfl rfl)
theorem dX4_sign_9 : decode cX4_sign 9 = .ok (.ifCond .eq 7, 3) := dk_153 0 7 (dk_at dksX4_sign_0 9 rfl rfl)
theorem dX4_sign_12 : decode cX4_sign 12 = .ok (.iload_n 2, 1) := dk_28 (dk_at dksX4_sign_0 12 rfl rfl)
theorem dX4_sign_13 : decode cX4_sign 13 = .ok (.ifCond .ge 7, 3) := dk_156 0 7 (dk_at dksX4_sign_0 13 rfl rfl)
theorem dX4_sign_16 : decode cX4_sign 16 = .ok (.ldc_w 293, 3) := dk_19 1 37 (dk_at dksX4_sign_0 16 rfl rfl)
theorem dX4_sign_19 : decode cX4_sign 19 = .ok (.ireturn, 1) := dk_172 (dk_at dksX4_sign_0 19 rfl rfl)
theorem dX4_sign_20 : decode cX4_sign 20 = .ok (.aload_n 0, 1) := dk_42 (dk_at dksX4_sign_0 20 rfl rfl)
theorem dX4_sign_21 : decode cX4_sign 21 = .ok (.iload_n 1, 1) := dk_27 (dk_at dksX4_sign_0 21 rfl rfl)
theorem dX4_sign_22 : decode cX4_sign 22 = .ok (.invokevirtual 338, 3) := dk_182 1 82 (dk_at dksX4_sign_1 0 rfl rfl)
theorem dX4_sign_25 : decode cX4_sign 25 = .ok (.ifCond .ne 7, 3) := dk_154 0 7 (dk_at dksX4_sign_1 3 rfl rfl)
theorem dX4_sign_28 : decode cX4_sign 28 = .ok (.ldc_w 341, 3) := dk_19 1 85 (dk_at dksX4_sign_1 6 rfl rfl)
theorem dX4_sign_31 : decode cX4_sign 31 = .ok (.ireturn, 1) := dk_172 (dk_at dksX4_sign_1 9 rfl rfl)
theorem dX4_sign_32 : decode cX4_sign 32 = .ok (.bipush 65, 2) := dk_16 65 (dk_at dksX4_sign_1 10 rfl rfl)
theorem dX4_sign_34 : decode cX4_sign 34 = .ok (.iload_n 1, 1) := dk_27 (dk_at dksX4_sign_1 12 rfl rfl)
theorem dX4_sign_35 : decode cX4_sign 35 = .ok (.imul, 1) := dk_104 (dk_at dksX4_sign_1 13 rfl rfl)
theorem dX4_sign_36 : decode cX4_sign 36 = .ok (.istore_n 3, 1) := dk_62 (dk_at dksX4_sign_1 14 rfl rfl)
theorem dX4_sign_37 : decode cX4_sign 37 = .ok (.iload_n 2, 1) := dk_28 (dk_at dksX4_sign_1 15 rfl rfl)
theorem dX4_sign_38 : decode cX4_sign 38 = .ok (.aload_n 0, 1) := dk_42 (dk_at dksX4_sign_1 16 rfl rfl)
theorem dX4_sign_39 : decode cX4_sign 39 = .ok (.getfield 9, 3) := dk_180 0 9 (dk_at dksX4_sign_1 17 rfl rfl)
theorem dX4_sign_42 : decode cX4_sign 42 = .ok (.iload_n 3, 1) := dk_29 (dk_at dksX4_sign_1 20 rfl rfl)
theorem dX4_sign_43 : decode cX4_sign 43 = .ok (.iaload, 1) := dk_46 (dk_at dksX4_sign_1 21 rfl rfl)
theorem dX4_sign_44 : decode cX4_sign 44 = .ok (.iconst 1, 1) := dk_4 (dk_at dksX4_sign_1 22 rfl rfl)
theorem dX4_sign_45 : decode cX4_sign 45 = .ok (.isub, 1) := dk_100 (dk_at dksX4_sign_1 23 rfl rfl)
theorem dX4_sign_46 : decode cX4_sign 46 = .ok (.if_icmp .lt 8, 3) := dk_161 0 8 (dk_at dksX4_sign_2 0 rfl rfl)
theorem dX4_sign_49 : decode cX4_sign 49 = .ok (.ldc 195, 2) := dk_18 195 (dk_at dksX4_sign_2 3 rfl rfl)
theorem dX4_sign_51 : decode cX4_sign 51 = .ok (.goto 19, 3) := dk_167 0 19 (dk_at dksX4_sign_2 5 rfl rfl)
theorem dX4_sign_54 : decode cX4_sign 54 = .ok (.aload_n 0, 1) := dk_42 (dk_at dksX4_sign_2 8 rfl rfl)
theorem dX4_sign_55 : decode cX4_sign 55 = .ok (.getfield 9, 3) := dk_180 0 9 (dk_at dksX4_sign_2 9 rfl rfl)
theorem dX4_sign_58 : decode cX4_sign 58 = .ok (.iload_n 3, 1) := dk_29 (dk_at dksX4_sign_2 12 rfl rfl)
theorem dX4_sign_59 : decode cX4_sign 59 = .ok (.iconst 3, 1) := dk_6 (dk_at dksX4_sign_2 13 rfl rfl)
theorem dX4_sign_60 : decode cX4_sign 60 = .ok (.iadd, 1) := dk_96 (dk_at dksX4_sign_2 14 rfl rfl)
theorem dX4_sign_61 : decode cX4_sign 61 = .ok (.iconst 2, 1) := dk_5 (dk_at dksX4_sign_2 15 rfl rfl)
theorem dX4_sign_62 : decode cX4_sign 62 = .ok (.iload_n 2, 1) := dk_28 (dk_at dksX4_sign_2 16 rfl rfl)
theorem dX4_sign_63 : decode cX4_sign 63 = .ok (.imul, 1) := dk_104 (dk_at dksX4_sign_2 17 rfl rfl)
theorem dX4_sign_64 : decode cX4_sign 64 = .ok (.iadd, 1) := dk_96 (dk_at dksX4_sign_2 18 rfl rfl)
theorem dX4_sign_65 : decode cX4_sign 65 = .ok (.iaload, 1) := dk_46 (dk_at dksX4_sign_2 19 rfl rfl)
theorem dX4_sign_66 : decode cX4_sign 66 = .ok (.iload_n 2, 1) := dk_28 (dk_at dksX4_sign_2 20 rfl rfl)
theorem dX4_sign_67 : decode cX4_sign 67 = .ok (.ishr, 1) := dk_122 (dk_at dksX4_sign_2 21 rfl rfl)
theorem dX4_sign_68 : decode cX4_sign 68 = .ok (.iconst 1, 1) := dk_4 (dk_at dksX4_sign_2 22 rfl rfl)
theorem dX4_sign_69 : decode cX4_sign 69 = .ok (.iand, 1) := dk_126 (dk_at dksX4_sign_2 23 rfl rfl)
theorem dX4_sign_70 : decode cX4_sign 70 = .ok (.ireturn, 1) := dk_172 (dk_at dksX4_sign_3 0 rfl rfl)
abbrev cX4_appendCharacter : ByteArray := prog_18_method_75_code
def yX4_appendCharacter : MethodName := ⟨RX4, "appendCharacter", "(I)I"⟩
def dkwX4_appendCharacter_2 : List UInt8 := [4, 96, 181, 1, 105, 42, 180, 1, 105, 172]
abbrev dktX4_appendCharacter_2 : List UInt8 := dkwX4_appendCharacter_2 ++ []
def dkwX4_appendCharacter_1 : List UInt8 := [16, 80, 160, 0, 7, 19, 1, 53, 172, 42, 180, 0, 25, 42, 180, 1, 105, 27, 79, 42, 89, 180, 1, 105]
abbrev dktX4_appendCharacter_1 : List UInt8 := dkwX4_appendCharacter_1 ++ dktX4_appendCharacter_2
def dkwX4_appendCharacter_0 : List UInt8 := [42, 3, 181, 0, 146, 27, 4, 17, 0, 255, 184, 0, 153, 154, 0, 7, 19, 1, 37, 172, 42, 180, 1, 105]
abbrev dktX4_appendCharacter_0 : List UInt8 := dkwX4_appendCharacter_0 ++ dktX4_appendCharacter_1
theorem dksX4_appendCharacter_0 : cX4_appendCharacter.data.toList.drop 0 = dktX4_appendCharacter_0 := by decide +kernel
theorem dksX4_appendCharacter_1 : cX4_appendCharacter.data.toList.drop 24 = dktX4_appendCharacter_1 := dk_seg dksX4_appendCharacter_0 24 rfl rfl
theorem dksX4_appendCharacter_2 : cX4_appendCharacter.data.toList.drop 48 = dktX4_appendCharacter_2 := dk_seg dksX4_appendCharacter_1 24 rfl rfl
theorem dX4_appendCharacter_0 : decode cX4_appendCharacter 0 = .ok (.aload_n 0, 1) := dk_42 (dk_at dksX4_appendCharacter_0 0 rfl rfl)
theorem dX4_appendCharacter_1 : decode cX4_appendCharacter 1 = .ok (.iconst 0, 1) := dk_3 (dk_at dksX4_appendCharacter_0 1 rfl rfl)
theorem dX4_appendCharacter_2 : decode cX4_appendCharacter 2 = .ok (.putfield 146, 3) := dk_181 0 146 (dk_at dksX4_appendCharacter_0 2 rfl rfl)
theorem dX4_appendCharacter_5 : decode cX4_appendCharacter 5 = .ok (.iload_n 1, 1) := dk_27 (dk_at dksX4_appendCharacter_0 5 rfl rfl)
theorem dX4_appendCharacter_6 : decode cX4_appendCharacter 6 = .ok (.iconst 1, 1) := dk_4 (dk_at dksX4_appendCharacter_0 6 rfl rfl)
theorem dX4_appendCharacter_7 : decode cX4_appendCharacter 7 = .ok (.sipush 255, 3) := dk_17 0 255 (dk_at dksX4_appendCharacter_0 7 rfl rfl)
theorem dX4_appendCharacter_10 : decode cX4_appendCharacter 10 = .ok (.invokestatic 153, 3) := dk_184 0 153 (dk_at dksX4_appendCharacter_0 10 rfl rfl)
theorem dX4_appendCharacter_13 : decode cX4_appendCharacter 13 = .ok (.ifCond .ne 7, 3) := dk_154 0 7 (dk_at dksX4_appendCharacter_0 13 rfl rfl)
theorem dX4_appendCharacter_16 : decode cX4_appendCharacter 16 = .ok (.ldc_w 293, 3) := dk_19 1 37 (dk_at dksX4_appendCharacter_0 16 rfl rfl)
theorem dX4_appendCharacter_19 : decode cX4_appendCharacter 19 = .ok (.ireturn, 1) := dk_172 (dk_at dksX4_appendCharacter_0 19 rfl rfl)
theorem dX4_appendCharacter_20 : decode cX4_appendCharacter 20 = .ok (.aload_n 0, 1) := dk_42 (dk_at dksX4_appendCharacter_0 20 rfl rfl)
theorem dX4_appendCharacter_21 : decode cX4_appendCharacter 21 = .ok (.getfield 361, 3) := dk_180 1 105 (dk_at dksX4_appendCharacter_0 21 rfl rfl)
theorem dX4_appendCharacter_24 : decode cX4_appendCharacter 24 = .ok (.bipush 80, 2) := dk_16 80 (dk_at dksX4_appendCharacter_1 0 rfl rfl)
theorem dX4_appendCharacter_26 : decode cX4_appendCharacter 26 = .ok (.if_icmp .ne 7, 3) := dk_160 0 7 (dk_at dksX4_appendCharacter_1 2 rfl rfl)
theorem dX4_appendCharacter_29 : decode cX4_appendCharacter 29 = .ok (.ldc_w 309, 3) := dk_19 1 53 (dk_at dksX4_appendCharacter_1 5 rfl rfl)
theorem dX4_appendCharacter_32 : decode cX4_appendCharacter 32 = .ok (.ireturn, 1) := dk_172 (dk_at dksX4_appendCharacter_1 8 rfl rfl)
theorem dX4_appendCharacter_33 : decode cX4_appendCharacter 33 = .ok (.aload_n 0, 1) := dk_42 (dk_at dksX4_appendCharacter_1 9 rfl rfl)
theorem dX4_appendCharacter_34 : decode cX4_appendCharacter 34 = .ok (.getfield 25, 3) := dk_180 0 25 (dk_at dksX4_appendCharacter_1 10 rfl rfl)
theorem dX4_appendCharacter_37 : decode cX4_appendCharacter 37 = .ok (.aload_n 0, 1) := dk_42 (dk_at dksX4_appendCharacter_1 13 rfl rfl)
theorem dX4_appendCharacter_38 : decode cX4_appendCharacter 38 = .ok (.getfield 361, 3) := dk_180 1 105 (dk_at dksX4_appendCharacter_1 14 rfl rfl)
theorem dX4_appendCharacter_41 : decode cX4_appendCharacter 41 = .ok (.iload_n 1, 1) := dk_27 (dk_at dksX4_appendCharacter_1 17 rfl rfl)
theorem dX4_appendCharacter_42 : decode cX4_appendCharacter 42 = .ok (.iastore, 1) := dk_79 (dk_at dksX4_appendCharacter_1 18 rfl rfl)
theorem dX4_appendCharacter_43 : decode cX4_appendCharacter 43 = .ok (.aload_n 0, 1) := dk_42 (dk_at dksX4_appendCharacter_1 19 rfl rfl)
theorem dX4_appendCharacter_44 : decode cX4_appendCharacter 44 = .ok (.dup, 1) := dk_89 (dk_at dksX4_appendCharacter_1 20 rfl rfl)
theorem dX4_appendCharacter_45 : decode cX4_appendCharacter 45 = .ok (.getfield 361, 3) := dk_180 1 105 (dk_at dksX4_appendCharacter_1 21 rfl rfl)
theorem dX4_appendCharacter_48 : decode cX4_appendCharacter 48 = .ok (.iconst 1, 1) := dk_4 (dk_at dksX4_appendCharacter_2 0 rfl rfl)
theorem dX4_appendCharacter_49 : decode cX4_appendCharacter 49 = .ok (.iadd, 1) := dk_96 (dk_at dksX4_appendCharacter_2 1 rfl rfl)
theorem dX4_appendCharacter_50 : decode cX4_appendCharacter 50 = .ok (.putfield 361, 3) := dk_181 1 105 (dk_at dksX4_appendCharacter_2 2 rfl rfl)
theorem dX4_appendCharacter_53 : decode cX4_appendCharacter 53 = .ok (.aload_n 0, 1) := dk_42 (dk_at dksX4_appendCharacter_2 5 rfl rfl)
theorem dX4_appendCharacter_54 : decode cX4_appendCharacter 54 = .ok (.getfield 361, 3) := dk_180 1 105 (dk_at dksX4_appendCharacter_2 6 rfl rfl)
theorem dX4_appendCharacter_57 : decode cX4_appendCharacter 57 = .ok (.ireturn, 1) := dk_172 (dk_at dksX4_appendCharacter_2 9 rfl rfl)
abbrev cX4_clearText : ByteArray := prog_18_method_76_code
def yX4_clearText : MethodName := ⟨RX4, "clearText", "()I"⟩
def dkwX4_clearText_0 : List UInt8 := [42, 3, 181, 0, 146, 42, 180, 1, 105, 60, 42, 3, 181, 1, 105, 27, 172]
abbrev dktX4_clearText_0 : List UInt8 := dkwX4_clearText_0 ++ []
theorem dksX4_clearText_0 : cX4_clearText.data.toList.drop 0 = dktX4_clearText_0 := by decide +kernel
theorem dX4_clearText_0 : decode cX4_clearText 0 = .ok (.aload_n 0, 1) := dk_42 (dk_at dksX4_clearText_0 0 rfl rfl)
theorem dX4_clearText_1 : decode cX4_clearText 1 = .ok (.iconst 0, 1) := dk_3 (dk_at dksX4_clearText_0 1 rfl rfl)
theorem dX4_clearText_2 : decode cX4_clearText 2 = .ok (.putfield 146, 3) := dk_181 0 146 (dk_at dksX4_clearText_0 2 rfl rfl)
theorem dX4_clearText_5 : decode cX4_clearText 5 = .ok (.aload_n 0, 1) := dk_42 (dk_at dksX4_clearText_0 5 rfl rfl)
theorem dX4_clearText_6 : decode cX4_clearText 6 = .ok (.getfield 361, 3) := dk_180 1 105 (dk_at dksX4_clearText_0 6 rfl rfl)
theorem dX4_clearText_9 : decode cX4_clearText 9 = .ok (.istore_n 1, 1) := dk_60 (dk_at dksX4_clearText_0 9 rfl rfl)
theorem dX4_clearText_10 : decode cX4_clearText 10 = .ok (.aload_n 0, 1) := dk_42 (dk_at dksX4_clearText_0 10 rfl rfl)
theorem dX4_clearText_11 : decode cX4_clearText 11 = .ok (.iconst 0, 1) := dk_3 (dk_at dksX4_clearText_0 11 rfl rfl)
theorem dX4_clearText_12 : decode cX4_clearText 12 = .ok (.putfield 361, 3) := dk_181 1 105 (dk_at dksX4_clearText_0 12 rfl rfl)
theorem dX4_clearText_15 : decode cX4_clearText 15 = .ok (.iload_n 1, 1) := dk_27 (dk_at dksX4_clearText_0 15 rfl rfl)
theorem dX4_clearText_16 : decode cX4_clearText 16 = .ok (.ireturn, 1) := dk_172 (dk_at dksX4_clearText_0 16 rfl rfl)
abbrev cX4_evaluate : ByteArray := prog_18_method_95_code
def yX4_evaluate : MethodName := ⟨RX4, "evaluate", "(I)I"⟩
def dkwX4_evaluate_3 : List UInt8 := [182, 1, 43, 42, 3, 181, 1, 105, 42, 180, 0, 82, 3, 46, 172]
abbrev dktX4_evaluate_3 : List UInt8 := dkwX4_evaluate_3 ++ []
def dkwX4_evaluate_2 : List UInt8 := [153, 0, 7, 19, 1, 42, 172, 42, 180, 0, 122, 3, 42, 180, 0, 82, 3, 184, 0, 231, 42, 27]
abbrev dktX4_evaluate_2 : List UInt8 := dkwX4_evaluate_2 ++ dktX4_evaluate_3
def dkwX4_evaluate_1 : List UInt8 := [16, 246, 42, 180, 1, 108, 100, 172, 42, 4, 182, 1, 180, 61, 28, 153, 0, 10, 42, 180, 1, 133]
abbrev dktX4_evaluate_1 : List UInt8 := dkwX4_evaluate_1 ++ dktX4_evaluate_2
def dkwX4_evaluate_0 : List UInt8 := [42, 3, 181, 0, 146, 27, 184, 1, 34, 154, 0, 7, 19, 1, 37, 172, 42, 3, 182, 1, 180, 154, 0, 11]
abbrev dktX4_evaluate_0 : List UInt8 := dkwX4_evaluate_0 ++ dktX4_evaluate_1
theorem dksX4_evaluate_0 : cX4_evaluate.data.toList.drop 0 = dktX4_evaluate_0 := by decide +kernel
theorem dksX4_evaluate_1 : cX4_evaluate.data.toList.drop 24 = dktX4_evaluate_1 := dk_seg dksX4_evaluate_0 24 rfl rfl
theorem dksX4_evaluate_2 : cX4_evaluate.data.toList.drop 46 = dktX4_evaluate_2 := dk_seg dksX4_evaluate_1 22 rfl rfl
theorem dksX4_evaluate_3 : cX4_evaluate.data.toList.drop 68 = dktX4_evaluate_3 := dk_seg dksX4_evaluate_2 22 rfl rfl
theorem dX4_evaluate_0 : decode cX4_evaluate 0 = .ok (.aload_n 0, 1) := dk_42 (dk_at dksX4_evaluate_0 0 rfl rfl)
theorem dX4_evaluate_1 : decode cX4_evaluate 1 = .ok (.iconst 0, 1) := dk_3 (dk_at dksX4_evaluate_0 1 rfl rfl)
theorem dX4_evaluate_2 : decode cX4_evaluate 2 = .ok (.putfield 146, 3) := dk_181 0 146 (dk_at dksX4_evaluate_0 2 rfl rfl)
theorem dX4_evaluate_5 : decode cX4_evaluate 5 = .ok (.iload_n 1, 1) := dk_27 (dk_at dksX4_evaluate_0 5 rfl rfl)
theorem dX4_evaluate_6 : decode cX4_evaluate 6 = .ok (.invokestatic 290, 3) := dk_184 1 34 (dk_at dksX4_evaluate_0 6 rfl rfl)
theorem dX4_evaluate_9 : decode cX4_evaluate 9 = .ok (.ifCond .ne 7, 3) := dk_154 0 7 (dk_at dksX4_evaluate_0 9 rfl rfl)
theorem dX4_evaluate_12 : decode cX4_evaluate 12 = .ok (.ldc_w 293, 3) := dk_19 1 37 (dk_at dksX4_evaluate_0 12 rfl rfl)
theorem dX4_evaluate_15 : decode cX4_evaluate 15 = .ok (.ireturn, 1) := dk_172 (dk_at dksX4_evaluate_0 15 rfl rfl)
theorem dX4_evaluate_16 : decode cX4_evaluate 16 = .ok (.aload_n 0, 1) := dk_42 (dk_at dksX4_evaluate_0 16 rfl rfl)
theorem dX4_evaluate_17 : decode cX4_evaluate 17 = .ok (.iconst 0, 1) := dk_3 (dk_at dksX4_evaluate_0 17 rfl rfl)
theorem dX4_evaluate_18 : decode cX4_evaluate 18 = .ok (.invokevirtual 436, 3) := dk_182 1 180 (dk_at dksX4_evaluate_0 18 rfl rfl)
theorem dX4_evaluate_21 : decode cX4_evaluate 21 = .ok (.ifCond .ne 11, 3) := dk_154 0 11 (dk_at dksX4_evaluate_0 21 rfl rfl)
theorem dX4_evaluate_24 : decode cX4_evaluate 24 = .ok (.bipush (-10), 2) := dk_16 246 (dk_at dksX4_evaluate_1 0 rfl rfl)
theorem dX4_evaluate_26 : decode cX4_evaluate 26 = .ok (.aload_n 0, 1) := dk_42 (dk_at dksX4_evaluate_1 2 rfl rfl)
theorem dX4_evaluate_27 : decode cX4_evaluate 27 = .ok (.getfield 364, 3) := dk_180 1 108 (dk_at dksX4_evaluate_1 3 rfl rfl)
theorem dX4_evaluate_30 : decode cX4_evaluate 30 = .ok (.isub, 1) := dk_100 (dk_at dksX4_evaluate_1 6 rfl rfl)
theorem dX4_evaluate_31 : decode cX4_evaluate 31 = .ok (.ireturn, 1) := dk_172 (dk_at dksX4_evaluate_1 7 rfl rfl)
theorem dX4_evaluate_32 : decode cX4_evaluate 32 = .ok (.aload_n 0, 1) := dk_42 (dk_at dksX4_evaluate_1 8 rfl rfl)
theorem dX4_evaluate_33 : decode cX4_evaluate 33 = .ok (.iconst 1, 1) := dk_4 (dk_at dksX4_evaluate_1 9 rfl rfl)
theorem dX4_evaluate_34 : decode cX4_evaluate 34 = .ok (.invokevirtual 436, 3) := dk_182 1 180 (dk_at dksX4_evaluate_1 10 rfl rfl)
theorem dX4_evaluate_37 : decode cX4_evaluate 37 = .ok (.istore_n 2, 1) := dk_61 (dk_at dksX4_evaluate_1 13 rfl rfl)
theorem dX4_evaluate_38 : decode cX4_evaluate 38 = .ok (.iload_n 2, 1) := dk_28 (dk_at dksX4_evaluate_1 14 rfl rfl)
theorem dX4_evaluate_39 : decode cX4_evaluate 39 = .ok (.ifCond .eq 10, 3) := dk_153 0 10 (dk_at dksX4_evaluate_1 15 rfl rfl)
theorem dX4_evaluate_42 : decode cX4_evaluate 42 = .ok (.aload_n 0, 1) := dk_42 (dk_at dksX4_evaluate_1 18 rfl rfl)
theorem dX4_evaluate_43 : decode cX4_evaluate 43 = .ok (.getfield 389, 3) := dk_180 1 133 (dk_at dksX4_evaluate_1 19 rfl rfl)
theorem dX4_evaluate_46 : decode cX4_evaluate 46 = .ok (.ifCond .eq 7, 3) := dk_153 0 7 (dk_at dksX4_evaluate_2 0 rfl rfl)
theorem dX4_evaluate_49 : decode cX4_evaluate 49 = .ok (.ldc_w 298, 3) := dk_19 1 42 (dk_at dksX4_evaluate_2 3 rfl rfl)
theorem dX4_evaluate_52 : decode cX4_evaluate 52 = .ok (.ireturn, 1) := dk_172 (dk_at dksX4_evaluate_2 6 rfl rfl)
theorem dX4_evaluate_53 : decode cX4_evaluate 53 = .ok (.aload_n 0, 1) := dk_42 (dk_at dksX4_evaluate_2 7 rfl rfl)
theorem dX4_evaluate_54 : decode cX4_evaluate 54 = .ok (.getfield 122, 3) := dk_180 0 122 (dk_at dksX4_evaluate_2 8 rfl rfl)
theorem dX4_evaluate_57 : decode cX4_evaluate 57 = .ok (.iconst 0, 1) := dk_3 (dk_at dksX4_evaluate_2 11 rfl rfl)
theorem dX4_evaluate_58 : decode cX4_evaluate 58 = .ok (.aload_n 0, 1) := dk_42 (dk_at dksX4_evaluate_2 12 rfl rfl)
theorem dX4_evaluate_59 : decode cX4_evaluate 59 = .ok (.getfield 82, 3) := dk_180 0 82 (dk_at dksX4_evaluate_2 13 rfl rfl)
theorem dX4_evaluate_62 : decode cX4_evaluate 62 = .ok (.iconst 0, 1) := dk_3 (dk_at dksX4_evaluate_2 16 rfl rfl)
theorem dX4_evaluate_63 : decode cX4_evaluate 63 = .ok (.invokestatic 231, 3) := dk_184 0 231 (dk_at dksX4_evaluate_2 17 rfl rfl)
theorem dX4_evaluate_66 : decode cX4_evaluate 66 = .ok (.aload_n 0, 1) := dk_42 (dk_at dksX4_evaluate_2 20 rfl rfl)
theorem dX4_evaluate_67 : decode cX4_evaluate 67 = .ok (.iload_n 1, 1) := dk_27 (dk_at dksX4_evaluate_2 21 rfl rfl)
theorem dX4_evaluate_68 : decode cX4_evaluate 68 = .ok (.invokevirtual 299, 3) := dk_182 1 43 (dk_at dksX4_evaluate_3 0 rfl rfl)
theorem dX4_evaluate_71 : decode cX4_evaluate 71 = .ok (.aload_n 0, 1) := dk_42 (dk_at dksX4_evaluate_3 3 rfl rfl)
theorem dX4_evaluate_72 : decode cX4_evaluate 72 = .ok (.iconst 0, 1) := dk_3 (dk_at dksX4_evaluate_3 4 rfl rfl)
theorem dX4_evaluate_73 : decode cX4_evaluate 73 = .ok (.putfield 361, 3) := dk_181 1 105 (dk_at dksX4_evaluate_3 5 rfl rfl)
theorem dX4_evaluate_76 : decode cX4_evaluate 76 = .ok (.aload_n 0, 1) := dk_42 (dk_at dksX4_evaluate_3 8 rfl rfl)
theorem dX4_evaluate_77 : decode cX4_evaluate 77 = .ok (.getfield 82, 3) := dk_180 0 82 (dk_at dksX4_evaluate_3 9 rfl rfl)
theorem dX4_evaluate_80 : decode cX4_evaluate 80 = .ok (.iconst 0, 1) := dk_3 (dk_at dksX4_evaluate_3 12 rfl rfl)
theorem dX4_evaluate_81 : decode cX4_evaluate 81 = .ok (.iaload, 1) := dk_46 (dk_at dksX4_evaluate_3 13 rfl rfl)
theorem dX4_evaluate_82 : decode cX4_evaluate 82 = .ok (.ireturn, 1) := dk_172 (dk_at dksX4_evaluate_3 14 rfl rfl)
abbrev cX4_readsText : ByteArray := prog_18_method_94_code
def yX4_readsText : MethodName := ⟨RX4, "readsText", "(Z)Z"⟩
def dkwX4_readsText_6 : List UInt8 := [167, 0, 4, 3, 172]
abbrev dktX4_readsText_6 : List UInt8 := dkwX4_readsText_6 ++ []
def dkwX4_readsText_5 : List UInt8 := [180, 1, 126, 154, 0, 22, 42, 180, 1, 142, 154, 0, 15, 42, 180, 1, 148, 5, 160, 0, 7, 4]
abbrev dktX4_readsText_5 : List UInt8 := dkwX4_readsText_5 ++ dktX4_readsText_6
def dkwX4_readsText_4 : List UInt8 := [167, 0, 8, 42, 28, 182, 1, 160, 42, 180, 1, 126, 154, 0, 7, 42, 182, 1, 114, 167, 255, 186, 42]
abbrev dktX4_readsText_4 : List UInt8 := dkwX4_readsText_4 ++ dktX4_readsText_5
def dkwX4_readsText_3 : List UInt8 := [160, 0, 11, 42, 28, 182, 1, 174, 167, 0, 23, 42, 180, 1, 148, 154, 0, 11, 42, 28, 182, 1, 177]
abbrev dktX4_readsText_3 : List UInt8 := dkwX4_readsText_3 ++ dktX4_readsText_4
def dkwX4_readsText_2 : List UInt8 := [154, 0, 69, 42, 180, 1, 108, 42, 180, 1, 105, 162, 0, 58, 42, 182, 1, 111, 61, 42, 180, 1, 148, 5]
abbrev dktX4_readsText_2 : List UInt8 := dkwX4_readsText_2 ++ dktX4_readsText_3
def dkwX4_readsText_1 : List UInt8 := [181, 1, 142, 42, 180, 0, 113, 3, 3, 79, 42, 182, 1, 145, 42, 182, 1, 114, 42, 180, 1, 126]
abbrev dktX4_readsText_1 : List UInt8 := dkwX4_readsText_1 ++ dktX4_readsText_2
def dkwX4_readsText_0 : List UInt8 := [42, 3, 181, 1, 108, 42, 3, 181, 1, 126, 42, 27, 181, 1, 130, 42, 3, 181, 1, 133, 42, 3]
abbrev dktX4_readsText_0 : List UInt8 := dkwX4_readsText_0 ++ dktX4_readsText_1
theorem dksX4_readsText_0 : cX4_readsText.data.toList.drop 0 = dktX4_readsText_0 := by decide +kernel
theorem dksX4_readsText_1 : cX4_readsText.data.toList.drop 22 = dktX4_readsText_1 := dk_seg dksX4_readsText_0 22 rfl rfl
theorem dksX4_readsText_2 : cX4_readsText.data.toList.drop 44 = dktX4_readsText_2 := dk_seg dksX4_readsText_1 22 rfl rfl
theorem dksX4_readsText_3 : cX4_readsText.data.toList.drop 68 = dktX4_readsText_3 := dk_seg dksX4_readsText_2 24 rfl rfl
theorem dksX4_readsText_4 : cX4_readsText.data.toList.drop 91 = dktX4_readsText_4 := dk_seg dksX4_readsText_3 23 rfl rfl
theorem dksX4_readsText_5 : cX4_readsText.data.toList.drop 114 = dktX4_readsText_5 := dk_seg dksX4_readsText_4 23 rfl rfl
theorem dksX4_readsText_6 : cX4_readsText.data.toList.drop 136 = dktX4_readsText_6 := dk_seg dksX4_readsText_5 22 rfl rfl
theorem dX4_readsText_0 : decode cX4_readsText 0 = .ok (.aload_n 0, 1) := dk_42 (dk_at dksX4_readsText_0 0 rfl rfl)
theorem dX4_readsText_1 : decode cX4_readsText 1 = .ok (.iconst 0, 1) := dk_3 (dk_at dksX4_readsText_0 1 rfl rfl)
theorem dX4_readsText_2 : decode cX4_readsText 2 = .ok (.putfield 364, 3) := dk_181 1 108 (dk_at dksX4_readsText_0 2 rfl rfl)
theorem dX4_readsText_5 : decode cX4_readsText 5 = .ok (.aload_n 0, 1) := dk_42 (dk_at dksX4_readsText_0 5 rfl rfl)
theorem dX4_readsText_6 : decode cX4_readsText 6 = .ok (.iconst 0, 1) := dk_3 (dk_at dksX4_readsText_0 6 rfl rfl)
theorem dX4_readsText_7 : decode cX4_readsText 7 = .ok (.putfield 382, 3) := dk_181 1 126 (dk_at dksX4_readsText_0 7 rfl rfl)
theorem dX4_readsText_10 : decode cX4_readsText 10 = .ok (.aload_n 0, 1) := dk_42 (dk_at dksX4_readsText_0 10 rfl rfl)
theorem dX4_readsText_11 : decode cX4_readsText 11 = .ok (.iload_n 1, 1) := dk_27 (dk_at dksX4_readsText_0 11 rfl rfl)
theorem dX4_readsText_12 : decode cX4_readsText 12 = .ok (.putfield 386, 3) := dk_181 1 130 (dk_at dksX4_readsText_0 12 rfl rfl)
theorem dX4_readsText_15 : decode cX4_readsText 15 = .ok (.aload_n 0, 1) := dk_42 (dk_at dksX4_readsText_0 15 rfl rfl)
theorem dX4_readsText_16 : decode cX4_readsText 16 = .ok (.iconst 0, 1) := dk_3 (dk_at dksX4_readsText_0 16 rfl rfl)
theorem dX4_readsText_17 : decode cX4_readsText 17 = .ok (.putfield 389, 3) := dk_181 1 133 (dk_at dksX4_readsText_0 17 rfl rfl)
theorem dX4_readsText_20 : decode cX4_readsText 20 = .ok (.aload_n 0, 1) := dk_42 (dk_at dksX4_readsText_0 20 rfl rfl)
theorem dX4_readsText_21 : decode cX4_readsText 21 = .ok (.iconst 0, 1) := dk_3 (dk_at dksX4_readsText_0 21 rfl rfl)
theorem dX4_readsText_22 : decode cX4_readsText 22 = .ok (.putfield 398, 3) := dk_181 1 142 (dk_at dksX4_readsText_1 0 rfl rfl)
theorem dX4_readsText_25 : decode cX4_readsText 25 = .ok (.aload_n 0, 1) := dk_42 (dk_at dksX4_readsText_1 3 rfl rfl)
theorem dX4_readsText_26 : decode cX4_readsText 26 = .ok (.getfield 113, 3) := dk_180 0 113 (dk_at dksX4_readsText_1 4 rfl rfl)
theorem dX4_readsText_29 : decode cX4_readsText 29 = .ok (.iconst 0, 1) := dk_3 (dk_at dksX4_readsText_1 7 rfl rfl)
theorem dX4_readsText_30 : decode cX4_readsText 30 = .ok (.iconst 0, 1) := dk_3 (dk_at dksX4_readsText_1 8 rfl rfl)
theorem dX4_readsText_31 : decode cX4_readsText 31 = .ok (.iastore, 1) := dk_79 (dk_at dksX4_readsText_1 9 rfl rfl)
theorem dX4_readsText_32 : decode cX4_readsText 32 = .ok (.aload_n 0, 1) := dk_42 (dk_at dksX4_readsText_1 10 rfl rfl)
theorem dX4_readsText_33 : decode cX4_readsText 33 = .ok (.invokevirtual 401, 3) := dk_182 1 145 (dk_at dksX4_readsText_1 11 rfl rfl)
theorem dX4_readsText_36 : decode cX4_readsText 36 = .ok (.aload_n 0, 1) := dk_42 (dk_at dksX4_readsText_1 14 rfl rfl)
theorem dX4_readsText_37 : decode cX4_readsText 37 = .ok (.invokevirtual 370, 3) := dk_182 1 114 (dk_at dksX4_readsText_1 15 rfl rfl)
theorem dX4_readsText_40 : decode cX4_readsText 40 = .ok (.aload_n 0, 1) := dk_42 (dk_at dksX4_readsText_1 18 rfl rfl)
theorem dX4_readsText_41 : decode cX4_readsText 41 = .ok (.getfield 382, 3) := dk_180 1 126 (dk_at dksX4_readsText_1 19 rfl rfl)
theorem dX4_readsText_44 : decode cX4_readsText 44 = .ok (.ifCond .ne 69, 3) := dk_154 0 69 (dk_at dksX4_readsText_2 0 rfl rfl)
theorem dX4_readsText_47 : decode cX4_readsText 47 = .ok (.aload_n 0, 1) := dk_42 (dk_at dksX4_readsText_2 3 rfl rfl)
theorem dX4_readsText_48 : decode cX4_readsText 48 = .ok (.getfield 364, 3) := dk_180 1 108 (dk_at dksX4_readsText_2 4 rfl rfl)
theorem dX4_readsText_51 : decode cX4_readsText 51 = .ok (.aload_n 0, 1) := dk_42 (dk_at dksX4_readsText_2 7 rfl rfl)
theorem dX4_readsText_52 : decode cX4_readsText 52 = .ok (.getfield 361, 3) := dk_180 1 105 (dk_at dksX4_readsText_2 8 rfl rfl)
theorem dX4_readsText_55 : decode cX4_readsText 55 = .ok (.if_icmp .ge 58, 3) := dk_162 0 58 (dk_at dksX4_readsText_2 11 rfl rfl)
theorem dX4_readsText_58 : decode cX4_readsText 58 = .ok (.aload_n 0, 1) := dk_42 (dk_at dksX4_readsText_2 14 rfl rfl)
theorem dX4_readsText_59 : decode cX4_readsText 59 = .ok (.invokevirtual 367, 3) := dk_182 1 111 (dk_at dksX4_readsText_2 15 rfl rfl)
theorem dX4_readsText_62 : decode cX4_readsText 62 = .ok (.istore_n 2, 1) := dk_61 (dk_at dksX4_readsText_2 18 rfl rfl)
theorem dX4_readsText_63 : decode cX4_readsText 63 = .ok (.aload_n 0, 1) := dk_42 (dk_at dksX4_readsText_2 19 rfl rfl)
theorem dX4_readsText_64 : decode cX4_readsText 64 = .ok (.getfield 404, 3) := dk_180 1 148 (dk_at dksX4_readsText_2 20 rfl rfl)
theorem dX4_readsText_67 : decode cX4_readsText 67 = .ok (.iconst 2, 1) := dk_5 (dk_at dksX4_readsText_2 23 rfl rfl)
theorem dX4_readsText_68 : decode cX4_readsText 68 = .ok (.if_icmp .ne 11, 3) := dk_160 0 11 (dk_at dksX4_readsText_3 0 rfl rfl)
theorem dX4_readsText_71 : decode cX4_readsText 71 = .ok (.aload_n 0, 1) := dk_42 (dk_at dksX4_readsText_3 3 rfl rfl)
theorem dX4_readsText_72 : decode cX4_readsText 72 = .ok (.iload_n 2, 1) := dk_28 (dk_at dksX4_readsText_3 4 rfl rfl)
theorem dX4_readsText_73 : decode cX4_readsText 73 = .ok (.invokevirtual 430, 3) := dk_182 1 174 (dk_at dksX4_readsText_3 5 rfl rfl)
theorem dX4_readsText_76 : decode cX4_readsText 76 = .ok (.goto 23, 3) := dk_167 0 23 (dk_at dksX4_readsText_3 8 rfl rfl)
theorem dX4_readsText_79 : decode cX4_readsText 79 = .ok (.aload_n 0, 1) := dk_42 (dk_at dksX4_readsText_3 11 rfl rfl)
theorem dX4_readsText_80 : decode cX4_readsText 80 = .ok (.getfield 404, 3) := dk_180 1 148 (dk_at dksX4_readsText_3 12 rfl rfl)
theorem dX4_readsText_83 : decode cX4_readsText 83 = .ok (.ifCond .ne 11, 3) := dk_154 0 11 (dk_at dksX4_readsText_3 15 rfl rfl)
theorem dX4_readsText_86 : decode cX4_readsText 86 = .ok (.aload_n 0, 1) := dk_42 (dk_at dksX4_readsText_3 18 rfl rfl)
theorem dX4_readsText_87 : decode cX4_readsText 87 = .ok (.iload_n 2, 1) := dk_28 (dk_at dksX4_readsText_3 19 rfl rfl)
theorem dX4_readsText_88 : decode cX4_readsText 88 = .ok (.invokevirtual 433, 3) := dk_182 1 177 (dk_at dksX4_readsText_3 20 rfl rfl)
theorem dX4_readsText_91 : decode cX4_readsText 91 = .ok (.goto 8, 3) := dk_167 0 8 (dk_at dksX4_readsText_4 0 rfl rfl)
theorem dX4_readsText_94 : decode cX4_readsText 94 = .ok (.aload_n 0, 1) := dk_42 (dk_at dksX4_readsText_4 3 rfl rfl)
theorem dX4_readsText_95 : decode cX4_readsText 95 = .ok (.iload_n 2, 1) := dk_28 (dk_at dksX4_readsText_4 4 rfl rfl)
theorem dX4_readsText_96 : decode cX4_readsText 96 = .ok (.invokevirtual 416, 3) := dk_182 1 160 (dk_at dksX4_readsText_4 5 rfl rfl)
theorem dX4_readsText_99 : decode cX4_readsText 99 = .ok (.aload_n 0, 1) := dk_42 (dk_at dksX4_readsText_4 8 rfl rfl)
theorem dX4_readsText_100 : decode cX4_readsText 100 = .ok (.getfield 382, 3) := dk_180 1 126 (dk_at dksX4_readsText_4 9 rfl rfl)
theorem dX4_readsText_103 : decode cX4_readsText 103 = .ok (.ifCond .ne 7, 3) := dk_154 0 7 (dk_at dksX4_readsText_4 12 rfl rfl)
theorem dX4_readsText_106 : decode cX4_readsText 106 = .ok (.aload_n 0, 1) := dk_42 (dk_at dksX4_readsText_4 15 rfl rfl)
theorem dX4_readsText_107 : decode cX4_readsText 107 = .ok (.invokevirtual 370, 3) := dk_182 1 114 (dk_at dksX4_readsText_4 16 rfl rfl)
theorem dX4_readsText_110 : decode cX4_readsText 110 = .ok (.goto (-70), 3) := dk_167 255 186 (dk_at dksX4_readsText_4 19 rfl rfl)
theorem dX4_readsText_113 : decode cX4_readsText 113 = .ok (.aload_n 0, 1) := dk_42 (dk_at dksX4_readsText_4 22 rfl rfl)
theorem dX4_readsText_114 : decode cX4_readsText 114 = .ok (.getfield 382, 3) := dk_180 1 126 (dk_at dksX4_readsText_5 0 rfl rfl)
theorem dX4_readsText_117 : decode cX4_readsText 117 = .ok (.ifCond .ne 22, 3) := dk_154 0 22 (dk_at dksX4_readsText_5 3 rfl rfl)
theorem dX4_readsText_120 : decode cX4_readsText 120 = .ok (.aload_n 0, 1) := dk_42 (dk_at dksX4_readsText_5 6 rfl rfl)
theorem dX4_readsText_121 : decode cX4_readsText 121 = .ok (.getfield 398, 3) := dk_180 1 142 (dk_at dksX4_readsText_5 7 rfl rfl)
theorem dX4_readsText_124 : decode cX4_readsText 124 = .ok (.ifCond .ne 15, 3) := dk_154 0 15 (dk_at dksX4_readsText_5 10 rfl rfl)
theorem dX4_readsText_127 : decode cX4_readsText 127 = .ok (.aload_n 0, 1) := dk_42 (dk_at dksX4_readsText_5 13 rfl rfl)
theorem dX4_readsText_128 : decode cX4_readsText 128 = .ok (.getfield 404, 3) := dk_180 1 148 (dk_at dksX4_readsText_5 14 rfl rfl)
theorem dX4_readsText_131 : decode cX4_readsText 131 = .ok (.iconst 2, 1) := dk_5 (dk_at dksX4_readsText_5 17 rfl rfl)
theorem dX4_readsText_132 : decode cX4_readsText 132 = .ok (.if_icmp .ne 7, 3) := dk_160 0 7 (dk_at dksX4_readsText_5 18 rfl rfl)
theorem dX4_readsText_135 : decode cX4_readsText 135 = .ok (.iconst 1, 1) := dk_4 (dk_at dksX4_readsText_5 21 rfl rfl)
theorem dX4_readsText_136 : decode cX4_readsText 136 = .ok (.goto 4, 3) := dk_167 0 4 (dk_at dksX4_readsText_6 0 rfl rfl)
theorem dX4_readsText_139 : decode cX4_readsText 139 = .ok (.iconst 0, 1) := dk_3 (dk_at dksX4_readsText_6 3 rfl rfl)
theorem dX4_readsText_140 : decode cX4_readsText 140 = .ok (.ireturn, 1) := dk_172 (dk_at dksX4_readsText_6 4 rfl rfl)
abbrev cX4_beginExpression : ByteArray := prog_18_method_86_code
def yX4_beginExpression : MethodName := ⟨RX4, "beginExpression", "()V"⟩
def dkwX4_beginExpression_1 : List UInt8 := [181, 1, 148, 177]
abbrev dktX4_beginExpression_1 : List UInt8 := dkwX4_beginExpression_1 ++ []
def dkwX4_beginExpression_0 : List UInt8 := [42, 180, 0, 119, 42, 180, 1, 142, 3, 84, 42, 180, 0, 116, 42, 180, 1, 142, 3, 84, 42, 3]
abbrev dktX4_beginExpression_0 : List UInt8 := dkwX4_beginExpression_0 ++ dktX4_beginExpression_1
theorem dksX4_beginExpression_0 : cX4_beginExpression.data.toList.drop 0 = dktX4_beginExpression_0 := by decide +kernel
theorem dksX4_beginExpression_1 : cX4_beginExpression.data.toList.drop 22 = dktX4_beginExpression_1 := dk_seg dksX4_beginExpression_0 22 rfl rfl
theorem dX4_beginExpression_0 : decode cX4_beginExpression 0 = .ok (.aload_n 0, 1) := dk_42 (dk_at dksX4_beginExpression_0 0 rfl rfl)
theorem dX4_beginExpression_1 : decode cX4_beginExpression 1 = .ok (.getfield 119, 3) := dk_180 0 119 (dk_at dksX4_beginExpression_0 1 rfl rfl)
theorem dX4_beginExpression_4 : decode cX4_beginExpression 4 = .ok (.aload_n 0, 1) := dk_42 (dk_at dksX4_beginExpression_0 4 rfl rfl)
theorem dX4_beginExpression_5 : decode cX4_beginExpression 5 = .ok (.getfield 398, 3) := dk_180 1 142 (dk_at dksX4_beginExpression_0 5 rfl rfl)
theorem dX4_beginExpression_8 : decode cX4_beginExpression 8 = .ok (.iconst 0, 1) := dk_3 (dk_at dksX4_beginExpression_0 8 rfl rfl)
theorem dX4_beginExpression_9 : decode cX4_beginExpression 9 = .ok (.bastore, 1) := dk_84 (dk_at dksX4_beginExpression_0 9 rfl rfl)
theorem dX4_beginExpression_10 : decode cX4_beginExpression 10 = .ok (.aload_n 0, 1) := dk_42 (dk_at dksX4_beginExpression_0 10 rfl rfl)
theorem dX4_beginExpression_11 : decode cX4_beginExpression 11 = .ok (.getfield 116, 3) := dk_180 0 116 (dk_at dksX4_beginExpression_0 11 rfl rfl)
theorem dX4_beginExpression_14 : decode cX4_beginExpression 14 = .ok (.aload_n 0, 1) := dk_42 (dk_at dksX4_beginExpression_0 14 rfl rfl)
theorem dX4_beginExpression_15 : decode cX4_beginExpression 15 = .ok (.getfield 398, 3) := dk_180 1 142 (dk_at dksX4_beginExpression_0 15 rfl rfl)
theorem dX4_beginExpression_18 : decode cX4_beginExpression 18 = .ok (.iconst 0, 1) := dk_3 (dk_at dksX4_beginExpression_0 18 rfl rfl)
theorem dX4_beginExpression_19 : decode cX4_beginExpression 19 = .ok (.bastore, 1) := dk_84 (dk_at dksX4_beginExpression_0 19 rfl rfl)
theorem dX4_beginExpression_20 : decode cX4_beginExpression 20 = .ok (.aload_n 0, 1) := dk_42 (dk_at dksX4_beginExpression_0 20 rfl rfl)
theorem dX4_beginExpression_21 : decode cX4_beginExpression 21 = .ok (.iconst 0, 1) := dk_3 (dk_at dksX4_beginExpression_0 21 rfl rfl)
theorem dX4_beginExpression_22 : decode cX4_beginExpression 22 = .ok (.putfield 404, 3) := dk_181 1 148 (dk_at dksX4_beginExpression_1 0 rfl rfl)
theorem dX4_beginExpression_25 : decode cX4_beginExpression 25 = .ok (.return_, 1) := dk_177 (dk_at dksX4_beginExpression_1 3 rfl rfl)
abbrev cX4_skip : ByteArray := prog_18_method_78_code
def yX4_skip : MethodName := ⟨RX4, "skip", "()V"⟩
def dkwX4_skip_0 : List UInt8 := [42, 182, 1, 111, 16, 32, 160, 0, 16, 42, 89, 180, 1, 108, 4, 96, 181, 1, 108, 167, 255, 237, 177]
abbrev dktX4_skip_0 : List UInt8 := dkwX4_skip_0 ++ []
theorem dksX4_skip_0 : cX4_skip.data.toList.drop 0 = dktX4_skip_0 := by decide +kernel
theorem dX4_skip_0 : decode cX4_skip 0 = .ok (.aload_n 0, 1) := dk_42 (dk_at dksX4_skip_0 0 rfl rfl)
theorem dX4_skip_1 : decode cX4_skip 1 = .ok (.invokevirtual 367, 3) := dk_182 1 111 (dk_at dksX4_skip_0 1 rfl rfl)
theorem dX4_skip_4 : decode cX4_skip 4 = .ok (.bipush 32, 2) := dk_16 32 (dk_at dksX4_skip_0 4 rfl rfl)
theorem dX4_skip_6 : decode cX4_skip 6 = .ok (.if_icmp .ne 16, 3) := dk_160 0 16 (dk_at dksX4_skip_0 6 rfl rfl)
theorem dX4_skip_9 : decode cX4_skip 9 = .ok (.aload_n 0, 1) := dk_42 (dk_at dksX4_skip_0 9 rfl rfl)
theorem dX4_skip_10 : decode cX4_skip 10 = .ok (.dup, 1) := dk_89 (dk_at dksX4_skip_0 10 rfl rfl)
theorem dX4_skip_11 : decode cX4_skip 11 = .ok (.getfield 364, 3) := dk_180 1 108 (dk_at dksX4_skip_0 11 rfl rfl)
theorem dX4_skip_14 : decode cX4_skip 14 = .ok (.iconst 1, 1) := dk_4 (dk_at dksX4_skip_0 14 rfl rfl)
theorem dX4_skip_15 : decode cX4_skip 15 = .ok (.iadd, 1) := dk_96 (dk_at dksX4_skip_0 15 rfl rfl)
theorem dX4_skip_16 : decode cX4_skip 16 = .ok (.putfield 364, 3) := dk_181 1 108 (dk_at dksX4_skip_0 16 rfl rfl)
theorem dX4_skip_19 : decode cX4_skip 19 = .ok (.goto (-19), 3) := dk_167 255 237 (dk_at dksX4_skip_0 19 rfl rfl)
theorem dX4_skip_22 : decode cX4_skip 22 = .ok (.return_, 1) := dk_177 (dk_at dksX4_skip_0 22 rfl rfl)
abbrev cX4_here : ByteArray := prog_18_method_77_code
def yX4_here : MethodName := ⟨RX4, "here", "()I"⟩
def dkwX4_here_1 : List UInt8 := [172]
abbrev dktX4_here_1 : List UInt8 := dkwX4_here_1 ++ []
def dkwX4_here_0 : List UInt8 := [42, 180, 1, 108, 42, 180, 1, 105, 162, 0, 15, 42, 180, 0, 25, 42, 180, 1, 108, 46, 167, 0, 4, 2]
abbrev dktX4_here_0 : List UInt8 := dkwX4_here_0 ++ dktX4_here_1
theorem dksX4_here_0 : cX4_here.data.toList.drop 0 = dktX4_here_0 := by decide +kernel
theorem dksX4_here_1 : cX4_here.data.toList.drop 24 = dktX4_here_1 := dk_seg dksX4_here_0 24 rfl rfl
theorem dX4_here_0 : decode cX4_here 0 = .ok (.aload_n 0, 1) := dk_42 (dk_at dksX4_here_0 0 rfl rfl)
theorem dX4_here_1 : decode cX4_here 1 = .ok (.getfield 364, 3) := dk_180 1 108 (dk_at dksX4_here_0 1 rfl rfl)
theorem dX4_here_4 : decode cX4_here 4 = .ok (.aload_n 0, 1) := dk_42 (dk_at dksX4_here_0 4 rfl rfl)
theorem dX4_here_5 : decode cX4_here 5 = .ok (.getfield 361, 3) := dk_180 1 105 (dk_at dksX4_here_0 5 rfl rfl)
theorem dX4_here_8 : decode cX4_here 8 = .ok (.if_icmp .ge 15, 3) := dk_162 0 15 (dk_at dksX4_here_0 8 rfl rfl)
theorem dX4_here_11 : decode cX4_here 11 = .ok (.aload_n 0, 1) := dk_42 (dk_at dksX4_here_0 11 rfl rfl)
theorem dX4_here_12 : decode cX4_here 12 = .ok (.getfield 25, 3) := dk_180 0 25 (dk_at dksX4_here_0 12 rfl rfl)
theorem dX4_here_15 : decode cX4_here 15 = .ok (.aload_n 0, 1) := dk_42 (dk_at dksX4_here_0 15 rfl rfl)
theorem dX4_here_16 : decode cX4_here 16 = .ok (.getfield 364, 3) := dk_180 1 108 (dk_at dksX4_here_0 16 rfl rfl)
theorem dX4_here_19 : decode cX4_here 19 = .ok (.iaload, 1) := dk_46 (dk_at dksX4_here_0 19 rfl rfl)
theorem dX4_here_20 : decode cX4_here 20 = .ok (.goto 4, 3) := dk_167 0 4 (dk_at dksX4_here_0 20 rfl rfl)
theorem dX4_here_23 : decode cX4_here 23 = .ok (.iconst (-1), 1) := dk_2 (dk_at dksX4_here_0 23 rfl rfl)
theorem dX4_here_24 : decode cX4_here 24 = .ok (.ireturn, 1) := dk_172 (dk_at dksX4_here_1 0 rfl rfl)
abbrev cX4_readBehind : ByteArray := prog_18_method_93_code
def yX4_readBehind : MethodName := ⟨RX4, "readBehind", "(I)V"⟩
def dkwX4_readBehind_8 : List UInt8 := [160, 0, 14, 42, 182, 1, 171, 42, 182, 1, 157, 167, 0, 8, 42, 4, 181, 1, 126, 177]
abbrev dktX4_readBehind_8 : List UInt8 := dkwX4_readBehind_8 ++ []
def dkwX4_readBehind_7 : List UInt8 := [180, 0, 113, 42, 180, 1, 142, 6, 79, 42, 182, 1, 145, 167, 0, 30, 27, 16, 125, 160, 0, 19, 28, 6]
abbrev dktX4_readBehind_7 : List UInt8 := dkwX4_readBehind_7 ++ dktX4_readBehind_8
def dkwX4_readBehind_6 : List UInt8 := [160, 0, 39, 28, 5, 160, 0, 34, 42, 89, 180, 1, 108, 4, 96, 181, 1, 108, 42, 182, 1, 171, 42]
abbrev dktX4_readBehind_6 : List UInt8 := dkwX4_readBehind_6 ++ dktX4_readBehind_7
def dkwX4_readBehind_5 : List UInt8 := [42, 89, 180, 1, 108, 4, 96, 181, 1, 108, 42, 182, 1, 171, 42, 182, 1, 145, 167, 0, 72, 27, 16, 124]
abbrev dktX4_readBehind_5 : List UInt8 := dkwX4_readBehind_5 ++ dktX4_readBehind_6
def dkwX4_readBehind_4 : List UInt8 := [167, 0, 114, 27, 16, 44, 160, 0, 39, 28, 5, 161, 0, 34, 42, 180, 0, 125, 29, 46, 8, 162, 0, 24]
abbrev dktX4_readBehind_4 : List UInt8 := dkwX4_readBehind_4 ++ dktX4_readBehind_5
def dkwX4_readBehind_3 : List UInt8 := [42, 4, 181, 1, 148, 167, 0, 132, 27, 16, 41, 160, 0, 15, 28, 4, 160, 0, 10, 42, 182, 1, 157]
abbrev dktX4_readBehind_3 : List UInt8 := dkwX4_readBehind_3 ++ dktX4_readBehind_4
def dkwX4_readBehind_2 : List UInt8 := [96, 181, 1, 108, 42, 180, 0, 116, 42, 180, 1, 142, 27, 16, 45, 160, 0, 7, 4, 167, 0, 4, 3, 84]
abbrev dktX4_readBehind_2 : List UInt8 := dkwX4_readBehind_2 ++ dktX4_readBehind_3
def dkwX4_readBehind_1 : List UInt8 := [167, 0, 4, 4, 96, 62, 27, 16, 43, 159, 0, 9, 27, 16, 45, 160, 0, 41, 42, 89, 180, 1, 108, 4]
abbrev dktX4_readBehind_1 : List UInt8 := dkwX4_readBehind_1 ++ dktX4_readBehind_2
def dkwX4_readBehind_0 : List UInt8 := [42, 180, 0, 113, 42, 180, 1, 142, 46, 61, 5, 42, 180, 1, 142, 104, 28, 5, 160, 0, 7, 3]
abbrev dktX4_readBehind_0 : List UInt8 := dkwX4_readBehind_0 ++ dktX4_readBehind_1
theorem dksX4_readBehind_0 : cX4_readBehind.data.toList.drop 0 = dktX4_readBehind_0 := by decide +kernel
theorem dksX4_readBehind_1 : cX4_readBehind.data.toList.drop 22 = dktX4_readBehind_1 := dk_seg dksX4_readBehind_0 22 rfl rfl
theorem dksX4_readBehind_2 : cX4_readBehind.data.toList.drop 46 = dktX4_readBehind_2 := dk_seg dksX4_readBehind_1 24 rfl rfl
theorem dksX4_readBehind_3 : cX4_readBehind.data.toList.drop 70 = dktX4_readBehind_3 := dk_seg dksX4_readBehind_2 24 rfl rfl
theorem dksX4_readBehind_4 : cX4_readBehind.data.toList.drop 93 = dktX4_readBehind_4 := dk_seg dksX4_readBehind_3 23 rfl rfl
theorem dksX4_readBehind_5 : cX4_readBehind.data.toList.drop 117 = dktX4_readBehind_5 := dk_seg dksX4_readBehind_4 24 rfl rfl
theorem dksX4_readBehind_6 : cX4_readBehind.data.toList.drop 141 = dktX4_readBehind_6 := dk_seg dksX4_readBehind_5 24 rfl rfl
theorem dksX4_readBehind_7 : cX4_readBehind.data.toList.drop 164 = dktX4_readBehind_7 := dk_seg dksX4_readBehind_6 23 rfl rfl
theorem dksX4_readBehind_8 : cX4_readBehind.data.toList.drop 188 = dktX4_readBehind_8 := dk_seg dksX4_readBehind_7 24 rfl rfl
theorem dX4_readBehind_0 : decode cX4_readBehind 0 = .ok (.aload_n 0, 1) := dk_42 (dk_at dksX4_readBehind_0 0 rfl rfl)
theorem dX4_readBehind_1 : decode cX4_readBehind 1 = .ok (.getfield 113, 3) := dk_180 0 113 (dk_at dksX4_readBehind_0 1 rfl rfl)
theorem dX4_readBehind_4 : decode cX4_readBehind 4 = .ok (.aload_n 0, 1) := dk_42 (dk_at dksX4_readBehind_0 4 rfl rfl)
theorem dX4_readBehind_5 : decode cX4_readBehind 5 = .ok (.getfield 398, 3) := dk_180 1 142 (dk_at dksX4_readBehind_0 5 rfl rfl)
theorem dX4_readBehind_8 : decode cX4_readBehind 8 = .ok (.iaload, 1) := dk_46 (dk_at dksX4_readBehind_0 8 rfl rfl)
theorem dX4_readBehind_9 : decode cX4_readBehind 9 = .ok (.istore_n 2, 1) := dk_61 (dk_at dksX4_readBehind_0 9 rfl rfl)
theorem dX4_readBehind_10 : decode cX4_readBehind 10 = .ok (.iconst 2, 1) := dk_5 (dk_at dksX4_readBehind_0 10 rfl rfl)
theorem dX4_readBehind_11 : decode cX4_readBehind 11 = .ok (.aload_n 0, 1) := dk_42 (dk_at dksX4_readBehind_0 11 rfl rfl)
theorem dX4_readBehind_12 : decode cX4_readBehind 12 = .ok (.getfield 398, 3) := dk_180 1 142 (dk_at dksX4_readBehind_0 12 rfl rfl)
theorem dX4_readBehind_15 : decode cX4_readBehind 15 = .ok (.imul, 1) := dk_104 (dk_at dksX4_readBehind_0 15 rfl rfl)
theorem dX4_readBehind_16 : decode cX4_readBehind 16 = .ok (.iload_n 2, 1) := dk_28 (dk_at dksX4_readBehind_0 16 rfl rfl)
theorem dX4_readBehind_17 : decode cX4_readBehind 17 = .ok (.iconst 2, 1) := dk_5 (dk_at dksX4_readBehind_0 17 rfl rfl)
theorem dX4_readBehind_18 : decode cX4_readBehind 18 = .ok (.if_icmp .ne 7, 3) := dk_160 0 7 (dk_at dksX4_readBehind_0 18 rfl rfl)
theorem dX4_readBehind_21 : decode cX4_readBehind 21 = .ok (.iconst 0, 1) := dk_3 (dk_at dksX4_readBehind_0 21 rfl rfl)
theorem dX4_readBehind_22 : decode cX4_readBehind 22 = .ok (.goto 4, 3) := dk_167 0 4 (dk_at dksX4_readBehind_1 0 rfl rfl)
theorem dX4_readBehind_25 : decode cX4_readBehind 25 = .ok (.iconst 1, 1) := dk_4 (dk_at dksX4_readBehind_1 3 rfl rfl)
theorem dX4_readBehind_26 : decode cX4_readBehind 26 = .ok (.iadd, 1) := dk_96 (dk_at dksX4_readBehind_1 4 rfl rfl)
theorem dX4_readBehind_27 : decode cX4_readBehind 27 = .ok (.istore_n 3, 1) := dk_62 (dk_at dksX4_readBehind_1 5 rfl rfl)
theorem dX4_readBehind_28 : decode cX4_readBehind 28 = .ok (.iload_n 1, 1) := dk_27 (dk_at dksX4_readBehind_1 6 rfl rfl)
theorem dX4_readBehind_29 : decode cX4_readBehind 29 = .ok (.bipush 43, 2) := dk_16 43 (dk_at dksX4_readBehind_1 7 rfl rfl)
theorem dX4_readBehind_31 : decode cX4_readBehind 31 = .ok (.if_icmp .eq 9, 3) := dk_159 0 9 (dk_at dksX4_readBehind_1 9 rfl rfl)
theorem dX4_readBehind_34 : decode cX4_readBehind 34 = .ok (.iload_n 1, 1) := dk_27 (dk_at dksX4_readBehind_1 12 rfl rfl)
theorem dX4_readBehind_35 : decode cX4_readBehind 35 = .ok (.bipush 45, 2) := dk_16 45 (dk_at dksX4_readBehind_1 13 rfl rfl)
theorem dX4_readBehind_37 : decode cX4_readBehind 37 = .ok (.if_icmp .ne 41, 3) := dk_160 0 41 (dk_at dksX4_readBehind_1 15 rfl rfl)
theorem dX4_readBehind_40 : decode cX4_readBehind 40 = .ok (.aload_n 0, 1) := dk_42 (dk_at dksX4_readBehind_1 18 rfl rfl)
theorem dX4_readBehind_41 : decode cX4_readBehind 41 = .ok (.dup, 1) := dk_89 (dk_at dksX4_readBehind_1 19 rfl rfl)
theorem dX4_readBehind_42 : decode cX4_readBehind 42 = .ok (.getfield 364, 3) := dk_180 1 108 (dk_at dksX4_readBehind_1 20 rfl rfl)
theorem dX4_readBehind_45 : decode cX4_readBehind 45 = .ok (.iconst 1, 1) := dk_4 (dk_at dksX4_readBehind_1 23 rfl rfl)
theorem dX4_readBehind_46 : decode cX4_readBehind 46 = .ok (.iadd, 1) := dk_96 (dk_at dksX4_readBehind_2 0 rfl rfl)
theorem dX4_readBehind_47 : decode cX4_readBehind 47 = .ok (.putfield 364, 3) := dk_181 1 108 (dk_at dksX4_readBehind_2 1 rfl rfl)
theorem dX4_readBehind_50 : decode cX4_readBehind 50 = .ok (.aload_n 0, 1) := dk_42 (dk_at dksX4_readBehind_2 4 rfl rfl)
theorem dX4_readBehind_51 : decode cX4_readBehind 51 = .ok (.getfield 116, 3) := dk_180 0 116 (dk_at dksX4_readBehind_2 5 rfl rfl)
theorem dX4_readBehind_54 : decode cX4_readBehind 54 = .ok (.aload_n 0, 1) := dk_42 (dk_at dksX4_readBehind_2 8 rfl rfl)
theorem dX4_readBehind_55 : decode cX4_readBehind 55 = .ok (.getfield 398, 3) := dk_180 1 142 (dk_at dksX4_readBehind_2 9 rfl rfl)
theorem dX4_readBehind_58 : decode cX4_readBehind 58 = .ok (.iload_n 1, 1) := dk_27 (dk_at dksX4_readBehind_2 12 rfl rfl)
theorem dX4_readBehind_59 : decode cX4_readBehind 59 = .ok (.bipush 45, 2) := dk_16 45 (dk_at dksX4_readBehind_2 13 rfl rfl)
theorem dX4_readBehind_61 : decode cX4_readBehind 61 = .ok (.if_icmp .ne 7, 3) := dk_160 0 7 (dk_at dksX4_readBehind_2 15 rfl rfl)
theorem dX4_readBehind_64 : decode cX4_readBehind 64 = .ok (.iconst 1, 1) := dk_4 (dk_at dksX4_readBehind_2 18 rfl rfl)
theorem dX4_readBehind_65 : decode cX4_readBehind 65 = .ok (.goto 4, 3) := dk_167 0 4 (dk_at dksX4_readBehind_2 19 rfl rfl)
theorem dX4_readBehind_68 : decode cX4_readBehind 68 = .ok (.iconst 0, 1) := dk_3 (dk_at dksX4_readBehind_2 22 rfl rfl)
theorem dX4_readBehind_69 : decode cX4_readBehind 69 = .ok (.bastore, 1) := dk_84 (dk_at dksX4_readBehind_2 23 rfl rfl)
theorem dX4_readBehind_70 : decode cX4_readBehind 70 = .ok (.aload_n 0, 1) := dk_42 (dk_at dksX4_readBehind_3 0 rfl rfl)
theorem dX4_readBehind_71 : decode cX4_readBehind 71 = .ok (.iconst 1, 1) := dk_4 (dk_at dksX4_readBehind_3 1 rfl rfl)
theorem dX4_readBehind_72 : decode cX4_readBehind 72 = .ok (.putfield 404, 3) := dk_181 1 148 (dk_at dksX4_readBehind_3 2 rfl rfl)
theorem dX4_readBehind_75 : decode cX4_readBehind 75 = .ok (.goto 132, 3) := dk_167 0 132 (dk_at dksX4_readBehind_3 5 rfl rfl)
theorem dX4_readBehind_78 : decode cX4_readBehind 78 = .ok (.iload_n 1, 1) := dk_27 (dk_at dksX4_readBehind_3 8 rfl rfl)
theorem dX4_readBehind_79 : decode cX4_readBehind 79 = .ok (.bipush 41, 2) := dk_16 41 (dk_at dksX4_readBehind_3 9 rfl rfl)
theorem dX4_readBehind_81 : decode cX4_readBehind 81 = .ok (.if_icmp .ne 15, 3) := dk_160 0 15 (dk_at dksX4_readBehind_3 11 rfl rfl)
theorem dX4_readBehind_84 : decode cX4_readBehind 84 = .ok (.iload_n 2, 1) := dk_28 (dk_at dksX4_readBehind_3 14 rfl rfl)
theorem dX4_readBehind_85 : decode cX4_readBehind 85 = .ok (.iconst 1, 1) := dk_4 (dk_at dksX4_readBehind_3 15 rfl rfl)
theorem dX4_readBehind_86 : decode cX4_readBehind 86 = .ok (.if_icmp .ne 10, 3) := dk_160 0 10 (dk_at dksX4_readBehind_3 16 rfl rfl)
theorem dX4_readBehind_89 : decode cX4_readBehind 89 = .ok (.aload_n 0, 1) := dk_42 (dk_at dksX4_readBehind_3 19 rfl rfl)
theorem dX4_readBehind_90 : decode cX4_readBehind 90 = .ok (.invokevirtual 413, 3) := dk_182 1 157 (dk_at dksX4_readBehind_3 20 rfl rfl)
theorem dX4_readBehind_93 : decode cX4_readBehind 93 = .ok (.goto 114, 3) := dk_167 0 114 (dk_at dksX4_readBehind_4 0 rfl rfl)
theorem dX4_readBehind_96 : decode cX4_readBehind 96 = .ok (.iload_n 1, 1) := dk_27 (dk_at dksX4_readBehind_4 3 rfl rfl)
theorem dX4_readBehind_97 : decode cX4_readBehind 97 = .ok (.bipush 44, 2) := dk_16 44 (dk_at dksX4_readBehind_4 4 rfl rfl)
theorem dX4_readBehind_99 : decode cX4_readBehind 99 = .ok (.if_icmp .ne 39, 3) := dk_160 0 39 (dk_at dksX4_readBehind_4 6 rfl rfl)
theorem dX4_readBehind_102 : decode cX4_readBehind 102 = .ok (.iload_n 2, 1) := dk_28 (dk_at dksX4_readBehind_4 9 rfl rfl)
theorem dX4_readBehind_103 : decode cX4_readBehind 103 = .ok (.iconst 2, 1) := dk_5 (dk_at dksX4_readBehind_4 10 rfl rfl)
theorem dX4_readBehind_104 : decode cX4_readBehind 104 = .ok (.if_icmp .lt 34, 3) := dk_161 0 34 (dk_at dksX4_readBehind_4 11 rfl rfl)
theorem dX4_readBehind_107 : decode cX4_readBehind 107 = .ok (.aload_n 0, 1) := dk_42 (dk_at dksX4_readBehind_4 14 rfl rfl)
theorem dX4_readBehind_108 : decode cX4_readBehind 108 = .ok (.getfield 125, 3) := dk_180 0 125 (dk_at dksX4_readBehind_4 15 rfl rfl)
theorem dX4_readBehind_111 : decode cX4_readBehind 111 = .ok (.iload_n 3, 1) := dk_29 (dk_at dksX4_readBehind_4 18 rfl rfl)
theorem dX4_readBehind_112 : decode cX4_readBehind 112 = .ok (.iaload, 1) := dk_46 (dk_at dksX4_readBehind_4 19 rfl rfl)
theorem dX4_readBehind_113 : decode cX4_readBehind 113 = .ok (.iconst 5, 1) := dk_8 (dk_at dksX4_readBehind_4 20 rfl rfl)
theorem dX4_readBehind_114 : decode cX4_readBehind 114 = .ok (.if_icmp .ge 24, 3) := dk_162 0 24 (dk_at dksX4_readBehind_4 21 rfl rfl)
theorem dX4_readBehind_117 : decode cX4_readBehind 117 = .ok (.aload_n 0, 1) := dk_42 (dk_at dksX4_readBehind_5 0 rfl rfl)
theorem dX4_readBehind_118 : decode cX4_readBehind 118 = .ok (.dup, 1) := dk_89 (dk_at dksX4_readBehind_5 1 rfl rfl)
theorem dX4_readBehind_119 : decode cX4_readBehind 119 = .ok (.getfield 364, 3) := dk_180 1 108 (dk_at dksX4_readBehind_5 2 rfl rfl)
theorem dX4_readBehind_122 : decode cX4_readBehind 122 = .ok (.iconst 1, 1) := dk_4 (dk_at dksX4_readBehind_5 5 rfl rfl)
theorem dX4_readBehind_123 : decode cX4_readBehind 123 = .ok (.iadd, 1) := dk_96 (dk_at dksX4_readBehind_5 6 rfl rfl)
theorem dX4_readBehind_124 : decode cX4_readBehind 124 = .ok (.putfield 364, 3) := dk_181 1 108 (dk_at dksX4_readBehind_5 7 rfl rfl)
theorem dX4_readBehind_127 : decode cX4_readBehind 127 = .ok (.aload_n 0, 1) := dk_42 (dk_at dksX4_readBehind_5 10 rfl rfl)
theorem dX4_readBehind_128 : decode cX4_readBehind 128 = .ok (.invokevirtual 427, 3) := dk_182 1 171 (dk_at dksX4_readBehind_5 11 rfl rfl)
theorem dX4_readBehind_131 : decode cX4_readBehind 131 = .ok (.aload_n 0, 1) := dk_42 (dk_at dksX4_readBehind_5 14 rfl rfl)
theorem dX4_readBehind_132 : decode cX4_readBehind 132 = .ok (.invokevirtual 401, 3) := dk_182 1 145 (dk_at dksX4_readBehind_5 15 rfl rfl)
theorem dX4_readBehind_135 : decode cX4_readBehind 135 = .ok (.goto 72, 3) := dk_167 0 72 (dk_at dksX4_readBehind_5 18 rfl rfl)
theorem dX4_readBehind_138 : decode cX4_readBehind 138 = .ok (.iload_n 1, 1) := dk_27 (dk_at dksX4_readBehind_5 21 rfl rfl)
theorem dX4_readBehind_139 : decode cX4_readBehind 139 = .ok (.bipush 124, 2) := dk_16 124 (dk_at dksX4_readBehind_5 22 rfl rfl)
theorem dX4_readBehind_141 : decode cX4_readBehind 141 = .ok (.if_icmp .ne 39, 3) := dk_160 0 39 (dk_at dksX4_readBehind_6 0 rfl rfl)
theorem dX4_readBehind_144 : decode cX4_readBehind 144 = .ok (.iload_n 2, 1) := dk_28 (dk_at dksX4_readBehind_6 3 rfl rfl)
theorem dX4_readBehind_145 : decode cX4_readBehind 145 = .ok (.iconst 2, 1) := dk_5 (dk_at dksX4_readBehind_6 4 rfl rfl)
theorem dX4_readBehind_146 : decode cX4_readBehind 146 = .ok (.if_icmp .ne 34, 3) := dk_160 0 34 (dk_at dksX4_readBehind_6 5 rfl rfl)
theorem dX4_readBehind_149 : decode cX4_readBehind 149 = .ok (.aload_n 0, 1) := dk_42 (dk_at dksX4_readBehind_6 8 rfl rfl)
theorem dX4_readBehind_150 : decode cX4_readBehind 150 = .ok (.dup, 1) := dk_89 (dk_at dksX4_readBehind_6 9 rfl rfl)
theorem dX4_readBehind_151 : decode cX4_readBehind 151 = .ok (.getfield 364, 3) := dk_180 1 108 (dk_at dksX4_readBehind_6 10 rfl rfl)
theorem dX4_readBehind_154 : decode cX4_readBehind 154 = .ok (.iconst 1, 1) := dk_4 (dk_at dksX4_readBehind_6 13 rfl rfl)
theorem dX4_readBehind_155 : decode cX4_readBehind 155 = .ok (.iadd, 1) := dk_96 (dk_at dksX4_readBehind_6 14 rfl rfl)
theorem dX4_readBehind_156 : decode cX4_readBehind 156 = .ok (.putfield 364, 3) := dk_181 1 108 (dk_at dksX4_readBehind_6 15 rfl rfl)
theorem dX4_readBehind_159 : decode cX4_readBehind 159 = .ok (.aload_n 0, 1) := dk_42 (dk_at dksX4_readBehind_6 18 rfl rfl)
theorem dX4_readBehind_160 : decode cX4_readBehind 160 = .ok (.invokevirtual 427, 3) := dk_182 1 171 (dk_at dksX4_readBehind_6 19 rfl rfl)
theorem dX4_readBehind_163 : decode cX4_readBehind 163 = .ok (.aload_n 0, 1) := dk_42 (dk_at dksX4_readBehind_6 22 rfl rfl)
theorem dX4_readBehind_164 : decode cX4_readBehind 164 = .ok (.getfield 113, 3) := dk_180 0 113 (dk_at dksX4_readBehind_7 0 rfl rfl)
theorem dX4_readBehind_167 : decode cX4_readBehind 167 = .ok (.aload_n 0, 1) := dk_42 (dk_at dksX4_readBehind_7 3 rfl rfl)
theorem dX4_readBehind_168 : decode cX4_readBehind 168 = .ok (.getfield 398, 3) := dk_180 1 142 (dk_at dksX4_readBehind_7 4 rfl rfl)
theorem dX4_readBehind_171 : decode cX4_readBehind 171 = .ok (.iconst 3, 1) := dk_6 (dk_at dksX4_readBehind_7 7 rfl rfl)
theorem dX4_readBehind_172 : decode cX4_readBehind 172 = .ok (.iastore, 1) := dk_79 (dk_at dksX4_readBehind_7 8 rfl rfl)
theorem dX4_readBehind_173 : decode cX4_readBehind 173 = .ok (.aload_n 0, 1) := dk_42 (dk_at dksX4_readBehind_7 9 rfl rfl)
theorem dX4_readBehind_174 : decode cX4_readBehind 174 = .ok (.invokevirtual 401, 3) := dk_182 1 145 (dk_at dksX4_readBehind_7 10 rfl rfl)
theorem dX4_readBehind_177 : decode cX4_readBehind 177 = .ok (.goto 30, 3) := dk_167 0 30 (dk_at dksX4_readBehind_7 13 rfl rfl)
theorem dX4_readBehind_180 : decode cX4_readBehind 180 = .ok (.iload_n 1, 1) := dk_27 (dk_at dksX4_readBehind_7 16 rfl rfl)
theorem dX4_readBehind_181 : decode cX4_readBehind 181 = .ok (.bipush 125, 2) := dk_16 125 (dk_at dksX4_readBehind_7 17 rfl rfl)
theorem dX4_readBehind_183 : decode cX4_readBehind 183 = .ok (.if_icmp .ne 19, 3) := dk_160 0 19 (dk_at dksX4_readBehind_7 19 rfl rfl)
theorem dX4_readBehind_186 : decode cX4_readBehind 186 = .ok (.iload_n 2, 1) := dk_28 (dk_at dksX4_readBehind_7 22 rfl rfl)
theorem dX4_readBehind_187 : decode cX4_readBehind 187 = .ok (.iconst 3, 1) := dk_6 (dk_at dksX4_readBehind_7 23 rfl rfl)
theorem dX4_readBehind_188 : decode cX4_readBehind 188 = .ok (.if_icmp .ne 14, 3) := dk_160 0 14 (dk_at dksX4_readBehind_8 0 rfl rfl)
theorem dX4_readBehind_191 : decode cX4_readBehind 191 = .ok (.aload_n 0, 1) := dk_42 (dk_at dksX4_readBehind_8 3 rfl rfl)
theorem dX4_readBehind_192 : decode cX4_readBehind 192 = .ok (.invokevirtual 427, 3) := dk_182 1 171 (dk_at dksX4_readBehind_8 4 rfl rfl)
theorem dX4_readBehind_195 : decode cX4_readBehind 195 = .ok (.aload_n 0, 1) := dk_42 (dk_at dksX4_readBehind_8 7 rfl rfl)
theorem dX4_readBehind_196 : decode cX4_readBehind 196 = .ok (.invokevirtual 413, 3) := dk_182 1 157 (dk_at dksX4_readBehind_8 8 rfl rfl)
theorem dX4_readBehind_199 : decode cX4_readBehind 199 = .ok (.goto 8, 3) := dk_167 0 8 (dk_at dksX4_readBehind_8 11 rfl rfl)
theorem dX4_readBehind_202 : decode cX4_readBehind 202 = .ok (.aload_n 0, 1) := dk_42 (dk_at dksX4_readBehind_8 14 rfl rfl)
theorem dX4_readBehind_203 : decode cX4_readBehind 203 = .ok (.iconst 1, 1) := dk_4 (dk_at dksX4_readBehind_8 15 rfl rfl)
theorem dX4_readBehind_204 : decode cX4_readBehind 204 = .ok (.putfield 382, 3) := dk_181 1 126 (dk_at dksX4_readBehind_8 16 rfl rfl)
theorem dX4_readBehind_207 : decode cX4_readBehind 207 = .ok (.return_, 1) := dk_177 (dk_at dksX4_readBehind_8 19 rfl rfl)
abbrev cX4_close : ByteArray := prog_18_method_90_code
def yX4_close : MethodName := ⟨RX4, "close", "()V"⟩
def dkwX4_close_2 : List UInt8 := [182, 1, 151, 42, 89, 180, 1, 142, 4, 100, 181, 1, 142, 42, 182, 1, 154, 177]
abbrev dktX4_close_2 : List UInt8 := dkwX4_close_2 ++ []
def dkwX4_close_1 : List UInt8 := [180, 0, 122, 16, 65, 42, 180, 1, 142, 104, 42, 180, 0, 131, 3, 184, 0, 231, 167, 0, 7, 42]
abbrev dktX4_close_1 : List UInt8 := dkwX4_close_1 ++ dktX4_close_2
def dkwX4_close_0 : List UInt8 := [42, 89, 180, 1, 108, 4, 96, 181, 1, 108, 42, 180, 0, 113, 42, 180, 1, 142, 46, 4, 160, 0, 25, 42]
abbrev dktX4_close_0 : List UInt8 := dkwX4_close_0 ++ dktX4_close_1
theorem dksX4_close_0 : cX4_close.data.toList.drop 0 = dktX4_close_0 := by decide +kernel
theorem dksX4_close_1 : cX4_close.data.toList.drop 24 = dktX4_close_1 := dk_seg dksX4_close_0 24 rfl rfl
theorem dksX4_close_2 : cX4_close.data.toList.drop 46 = dktX4_close_2 := dk_seg dksX4_close_1 22 rfl rfl
theorem dX4_close_0 : decode cX4_close 0 = .ok (.aload_n 0, 1) := dk_42 (dk_at dksX4_close_0 0 rfl rfl)
theorem dX4_close_1 : decode cX4_close 1 = .ok (.dup, 1) := dk_89 (dk_at dksX4_close_0 1 rfl rfl)
theorem dX4_close_2 : decode cX4_close 2 = .ok (.getfield 364, 3) := dk_180 1 108 (dk_at dksX4_close_0 2 rfl rfl)
theorem dX4_close_5 : decode cX4_close 5 = .ok (.iconst 1, 1) := dk_4 (dk_at dksX4_close_0 5 rfl rfl)
theorem dX4_close_6 : decode cX4_close 6 = .ok (.iadd, 1) := dk_96 (dk_at dksX4_close_0 6 rfl rfl)
theorem dX4_close_7 : decode cX4_close 7 = .ok (.putfield 364, 3) := dk_181 1 108 (dk_at dksX4_close_0 7 rfl rfl)
theorem dX4_close_10 : decode cX4_close 10 = .ok (.aload_n 0, 1) := dk_42 (dk_at dksX4_close_0 10 rfl rfl)
theorem dX4_close_11 : decode cX4_close 11 = .ok (.getfield 113, 3) := dk_180 0 113 (dk_at dksX4_close_0 11 rfl rfl)
theorem dX4_close_14 : decode cX4_close 14 = .ok (.aload_n 0, 1) := dk_42 (dk_at dksX4_close_0 14 rfl rfl)
theorem dX4_close_15 : decode cX4_close 15 = .ok (.getfield 398, 3) := dk_180 1 142 (dk_at dksX4_close_0 15 rfl rfl)
theorem dX4_close_18 : decode cX4_close 18 = .ok (.iaload, 1) := dk_46 (dk_at dksX4_close_0 18 rfl rfl)
theorem dX4_close_19 : decode cX4_close 19 = .ok (.iconst 1, 1) := dk_4 (dk_at dksX4_close_0 19 rfl rfl)
theorem dX4_close_20 : decode cX4_close 20 = .ok (.if_icmp .ne 25, 3) := dk_160 0 25 (dk_at dksX4_close_0 20 rfl rfl)
theorem dX4_close_23 : decode cX4_close 23 = .ok (.aload_n 0, 1) := dk_42 (dk_at dksX4_close_0 23 rfl rfl)
theorem dX4_close_24 : decode cX4_close 24 = .ok (.getfield 122, 3) := dk_180 0 122 (dk_at dksX4_close_1 0 rfl rfl)
theorem dX4_close_27 : decode cX4_close 27 = .ok (.bipush 65, 2) := dk_16 65 (dk_at dksX4_close_1 3 rfl rfl)
theorem dX4_close_29 : decode cX4_close 29 = .ok (.aload_n 0, 1) := dk_42 (dk_at dksX4_close_1 5 rfl rfl)
theorem dX4_close_30 : decode cX4_close 30 = .ok (.getfield 398, 3) := dk_180 1 142 (dk_at dksX4_close_1 6 rfl rfl)
theorem dX4_close_33 : decode cX4_close 33 = .ok (.imul, 1) := dk_104 (dk_at dksX4_close_1 9 rfl rfl)
theorem dX4_close_34 : decode cX4_close 34 = .ok (.aload_n 0, 1) := dk_42 (dk_at dksX4_close_1 10 rfl rfl)
theorem dX4_close_35 : decode cX4_close 35 = .ok (.getfield 131, 3) := dk_180 0 131 (dk_at dksX4_close_1 11 rfl rfl)
theorem dX4_close_38 : decode cX4_close 38 = .ok (.iconst 0, 1) := dk_3 (dk_at dksX4_close_1 14 rfl rfl)
theorem dX4_close_39 : decode cX4_close 39 = .ok (.invokestatic 231, 3) := dk_184 0 231 (dk_at dksX4_close_1 15 rfl rfl)
theorem dX4_close_42 : decode cX4_close 42 = .ok (.goto 7, 3) := dk_167 0 7 (dk_at dksX4_close_1 18 rfl rfl)
theorem dX4_close_45 : decode cX4_close 45 = .ok (.aload_n 0, 1) := dk_42 (dk_at dksX4_close_1 21 rfl rfl)
theorem dX4_close_46 : decode cX4_close 46 = .ok (.invokevirtual 407, 3) := dk_182 1 151 (dk_at dksX4_close_2 0 rfl rfl)
theorem dX4_close_49 : decode cX4_close 49 = .ok (.aload_n 0, 1) := dk_42 (dk_at dksX4_close_2 3 rfl rfl)
theorem dX4_close_50 : decode cX4_close 50 = .ok (.dup, 1) := dk_89 (dk_at dksX4_close_2 4 rfl rfl)
theorem dX4_close_51 : decode cX4_close 51 = .ok (.getfield 398, 3) := dk_180 1 142 (dk_at dksX4_close_2 5 rfl rfl)
theorem dX4_close_54 : decode cX4_close 54 = .ok (.iconst 1, 1) := dk_4 (dk_at dksX4_close_2 8 rfl rfl)
theorem dX4_close_55 : decode cX4_close 55 = .ok (.isub, 1) := dk_100 (dk_at dksX4_close_2 9 rfl rfl)
theorem dX4_close_56 : decode cX4_close 56 = .ok (.putfield 398, 3) := dk_181 1 142 (dk_at dksX4_close_2 10 rfl rfl)
theorem dX4_close_59 : decode cX4_close 59 = .ok (.aload_n 0, 1) := dk_42 (dk_at dksX4_close_2 13 rfl rfl)
theorem dX4_close_60 : decode cX4_close 60 = .ok (.invokevirtual 410, 3) := dk_182 1 154 (dk_at dksX4_close_2 14 rfl rfl)
theorem dX4_close_63 : decode cX4_close 63 = .ok (.return_, 1) := dk_177 (dk_at dksX4_close_2 17 rfl rfl)
abbrev cX4_makeBraces : ByteArray := prog_18_method_89_code
def yX4_makeBraces : MethodName := ⟨RX4, "makeBraces", "()V"⟩
def dkwX4_makeBraces_8 : List UInt8 := [180, 0, 131, 3, 184, 0, 231, 177]
abbrev dktX4_makeBraces_8 : List UInt8 := dkwX4_makeBraces_8 ++ []
def dkwX4_makeBraces_7 : List UInt8 := [182, 1, 11, 182, 1, 14, 154, 0, 7, 4, 167, 0, 4, 3, 181, 1, 133, 42, 180, 0, 82, 3, 42]
abbrev dktX4_makeBraces_7 : List UInt8 := dkwX4_makeBraces_7 ++ dktX4_makeBraces_8
def dkwX4_makeBraces_6 : List UInt8 := [16, 6, 162, 0, 7, 4, 167, 0, 4, 3, 182, 1, 0, 132, 1, 1, 167, 255, 215, 42, 42, 42]
abbrev dktX4_makeBraces_6 : List UInt8 := dkwX4_makeBraces_6 ++ dktX4_makeBraces_7
def dkwX4_makeBraces_5 : List UInt8 := [16, 12, 162, 0, 41, 42, 180, 0, 107, 27, 46, 18, 195, 159, 0, 24, 42, 42, 180, 0, 107, 27, 46, 27]
abbrev dktX4_makeBraces_5 : List UInt8 := dkwX4_makeBraces_5 ++ dktX4_makeBraces_6
def dkwX4_makeBraces_4 : List UInt8 := [182, 1, 17, 79, 132, 1, 1, 167, 255, 187, 42, 3, 181, 0, 166, 42, 3, 181, 0, 169, 3, 60, 27]
abbrev dktX4_makeBraces_4 : List UInt8 := dkwX4_makeBraces_4 ++ dktX4_makeBraces_5
def dkwX4_makeBraces_3 : List UInt8 := [180, 0, 107, 27, 42, 42, 180, 0, 128, 16, 65, 16, 6, 28, 104, 27, 16, 6, 112, 96, 104, 3]
abbrev dktX4_makeBraces_3 : List UInt8 := dkwX4_makeBraces_3 ++ dktX4_makeBraces_4
def dkwX4_makeBraces_2 : List UInt8 := [61, 42, 180, 0, 107, 27, 18, 195, 79, 27, 16, 6, 112, 42, 180, 0, 125, 28, 46, 162, 0, 30, 42]
abbrev dktX4_makeBraces_2 : List UInt8 := dkwX4_makeBraces_2 ++ dktX4_makeBraces_3
def dkwX4_makeBraces_1 : List UInt8 := [42, 3, 181, 0, 169, 3, 60, 27, 16, 12, 162, 0, 69, 5, 42, 180, 1, 142, 104, 27, 16, 6, 108, 96]
abbrev dktX4_makeBraces_1 : List UInt8 := dkwX4_makeBraces_1 ++ dktX4_makeBraces_2
def dkwX4_makeBraces_0 : List UInt8 := [42, 180, 1, 130, 153, 0, 10, 42, 180, 1, 133, 153, 0, 4, 177, 42, 182, 1, 4, 42, 3, 181, 0, 166]
abbrev dktX4_makeBraces_0 : List UInt8 := dkwX4_makeBraces_0 ++ dktX4_makeBraces_1
theorem dksX4_makeBraces_0 : cX4_makeBraces.data.toList.drop 0 = dktX4_makeBraces_0 := by decide +kernel
theorem dksX4_makeBraces_1 : cX4_makeBraces.data.toList.drop 24 = dktX4_makeBraces_1 := dk_seg dksX4_makeBraces_0 24 rfl rfl
theorem dksX4_makeBraces_2 : cX4_makeBraces.data.toList.drop 48 = dktX4_makeBraces_2 := dk_seg dksX4_makeBraces_1 24 rfl rfl
theorem dksX4_makeBraces_3 : cX4_makeBraces.data.toList.drop 71 = dktX4_makeBraces_3 := dk_seg dksX4_makeBraces_2 23 rfl rfl
theorem dksX4_makeBraces_4 : cX4_makeBraces.data.toList.drop 93 = dktX4_makeBraces_4 := dk_seg dksX4_makeBraces_3 22 rfl rfl
theorem dksX4_makeBraces_5 : cX4_makeBraces.data.toList.drop 116 = dktX4_makeBraces_5 := dk_seg dksX4_makeBraces_4 23 rfl rfl
theorem dksX4_makeBraces_6 : cX4_makeBraces.data.toList.drop 140 = dktX4_makeBraces_6 := dk_seg dksX4_makeBraces_5 24 rfl rfl
theorem dksX4_makeBraces_7 : cX4_makeBraces.data.toList.drop 162 = dktX4_makeBraces_7 := dk_seg dksX4_makeBraces_6 22 rfl rfl
theorem dksX4_makeBraces_8 : cX4_makeBraces.data.toList.drop 185 = dktX4_makeBraces_8 := dk_seg dksX4_makeBraces_7 23 rfl rfl
theorem dX4_makeBraces_0 : decode cX4_makeBraces 0 = .ok (.aload_n 0, 1) := dk_42 (dk_at dksX4_makeBraces_0 0 rfl rfl)
theorem dX4_makeBraces_1 : decode cX4_makeBraces 1 = .ok (.getfield 386, 3) := dk_180 1 130 (dk_at dksX4_makeBraces_0 1 rfl rfl)
theorem dX4_makeBraces_4 : decode cX4_makeBraces 4 = .ok (.ifCond .eq 10, 3) := dk_153 0 10 (dk_at dksX4_makeBraces_0 4 rfl rfl)
theorem dX4_makeBraces_7 : decode cX4_makeBraces 7 = .ok (.aload_n 0, 1) := dk_42 (dk_at dksX4_makeBraces_0 7 rfl rfl)
theorem dX4_makeBraces_8 : decode cX4_makeBraces 8 = .ok (.getfield 389, 3) := dk_180 1 133 (dk_at dksX4_makeBraces_0 8 rfl rfl)
theorem dX4_makeBraces_11 : decode cX4_makeBraces 11 = .ok (.ifCond .eq 4, 3) := dk_153 0 4 (dk_at dksX4_makeBraces_0 11 rfl rfl)
theorem dX4_makeBraces_14 : decode cX4_makeBraces 14 = .ok (.return_, 1) := dk_177 (dk_at dksX4_makeBraces_0 14 rfl rfl)
theorem dX4_makeBraces_15 : decode cX4_makeBraces 15 = .ok (.aload_n 0, 1) := dk_42 (dk_at dksX4_makeBraces_0 15 rfl rfl)
theorem dX4_makeBraces_16 : decode cX4_makeBraces 16 = .ok (.invokevirtual 260, 3) := dk_182 1 4 (dk_at dksX4_makeBraces_0 16 rfl rfl)
theorem dX4_makeBraces_19 : decode cX4_makeBraces 19 = .ok (.aload_n 0, 1) := dk_42 (dk_at dksX4_makeBraces_0 19 rfl rfl)
theorem dX4_makeBraces_20 : decode cX4_makeBraces 20 = .ok (.iconst 0, 1) := dk_3 (dk_at dksX4_makeBraces_0 20 rfl rfl)
theorem dX4_makeBraces_21 : decode cX4_makeBraces 21 = .ok (.putfield 166, 3) := dk_181 0 166 (dk_at dksX4_makeBraces_0 21 rfl rfl)
theorem dX4_makeBraces_24 : decode cX4_makeBraces 24 = .ok (.aload_n 0, 1) := dk_42 (dk_at dksX4_makeBraces_1 0 rfl rfl)
theorem dX4_makeBraces_25 : decode cX4_makeBraces 25 = .ok (.iconst 0, 1) := dk_3 (dk_at dksX4_makeBraces_1 1 rfl rfl)
theorem dX4_makeBraces_26 : decode cX4_makeBraces 26 = .ok (.putfield 169, 3) := dk_181 0 169 (dk_at dksX4_makeBraces_1 2 rfl rfl)
theorem dX4_makeBraces_29 : decode cX4_makeBraces 29 = .ok (.iconst 0, 1) := dk_3 (dk_at dksX4_makeBraces_1 5 rfl rfl)
theorem dX4_makeBraces_30 : decode cX4_makeBraces 30 = .ok (.istore_n 1, 1) := dk_60 (dk_at dksX4_makeBraces_1 6 rfl rfl)
theorem dX4_makeBraces_31 : decode cX4_makeBraces 31 = .ok (.iload_n 1, 1) := dk_27 (dk_at dksX4_makeBraces_1 7 rfl rfl)
theorem dX4_makeBraces_32 : decode cX4_makeBraces 32 = .ok (.bipush 12, 2) := dk_16 12 (dk_at dksX4_makeBraces_1 8 rfl rfl)
theorem dX4_makeBraces_34 : decode cX4_makeBraces 34 = .ok (.if_icmp .ge 69, 3) := dk_162 0 69 (dk_at dksX4_makeBraces_1 10 rfl rfl)
theorem dX4_makeBraces_37 : decode cX4_makeBraces 37 = .ok (.iconst 2, 1) := dk_5 (dk_at dksX4_makeBraces_1 13 rfl rfl)
theorem dX4_makeBraces_38 : decode cX4_makeBraces 38 = .ok (.aload_n 0, 1) := dk_42 (dk_at dksX4_makeBraces_1 14 rfl rfl)
theorem dX4_makeBraces_39 : decode cX4_makeBraces 39 = .ok (.getfield 398, 3) := dk_180 1 142 (dk_at dksX4_makeBraces_1 15 rfl rfl)
theorem dX4_makeBraces_42 : decode cX4_makeBraces 42 = .ok (.imul, 1) := dk_104 (dk_at dksX4_makeBraces_1 18 rfl rfl)
theorem dX4_makeBraces_43 : decode cX4_makeBraces 43 = .ok (.iload_n 1, 1) := dk_27 (dk_at dksX4_makeBraces_1 19 rfl rfl)
theorem dX4_makeBraces_44 : decode cX4_makeBraces 44 = .ok (.bipush 6, 2) := dk_16 6 (dk_at dksX4_makeBraces_1 20 rfl rfl)
theorem dX4_makeBraces_46 : decode cX4_makeBraces 46 = .ok (.idiv, 1) := dk_108 (dk_at dksX4_makeBraces_1 22 rfl rfl)
theorem dX4_makeBraces_47 : decode cX4_makeBraces 47 = .ok (.iadd, 1) := dk_96 (dk_at dksX4_makeBraces_1 23 rfl rfl)
theorem dX4_makeBraces_48 : decode cX4_makeBraces 48 = .ok (.istore_n 2, 1) := dk_61 (dk_at dksX4_makeBraces_2 0 rfl rfl)
theorem dX4_makeBraces_49 : decode cX4_makeBraces 49 = .ok (.aload_n 0, 1) := dk_42 (dk_at dksX4_makeBraces_2 1 rfl rfl)
theorem dX4_makeBraces_50 : decode cX4_makeBraces 50 = .ok (.getfield 107, 3) := dk_180 0 107 (dk_at dksX4_makeBraces_2 2 rfl rfl)
theorem dX4_makeBraces_53 : decode cX4_makeBraces 53 = .ok (.iload_n 1, 1) := dk_27 (dk_at dksX4_makeBraces_2 5 rfl rfl)
theorem dX4_makeBraces_54 : decode cX4_makeBraces 54 = .ok (.ldc 195, 2) := dk_18 195 (dk_at dksX4_makeBraces_2 6 rfl rfl)
theorem dX4_makeBraces_56 : decode cX4_makeBraces 56 = .ok (.iastore, 1) := dk_79 (dk_at dksX4_makeBraces_2 8 rfl rfl)
theorem dX4_makeBraces_57 : decode cX4_makeBraces 57 = .ok (.iload_n 1, 1) := dk_27 (dk_at dksX4_makeBraces_2 9 rfl rfl)
theorem dX4_makeBraces_58 : decode cX4_makeBraces 58 = .ok (.bipush 6, 2) := dk_16 6 (dk_at dksX4_makeBraces_2 10 rfl rfl)
theorem dX4_makeBraces_60 : decode cX4_makeBraces 60 = .ok (.irem, 1) := dk_112 (dk_at dksX4_makeBraces_2 12 rfl rfl)
theorem dX4_makeBraces_61 : decode cX4_makeBraces 61 = .ok (.aload_n 0, 1) := dk_42 (dk_at dksX4_makeBraces_2 13 rfl rfl)
theorem dX4_makeBraces_62 : decode cX4_makeBraces 62 = .ok (.getfield 125, 3) := dk_180 0 125 (dk_at dksX4_makeBraces_2 14 rfl rfl)
theorem dX4_makeBraces_65 : decode cX4_makeBraces 65 = .ok (.iload_n 2, 1) := dk_28 (dk_at dksX4_makeBraces_2 17 rfl rfl)
theorem dX4_makeBraces_66 : decode cX4_makeBraces 66 = .ok (.iaload, 1) := dk_46 (dk_at dksX4_makeBraces_2 18 rfl rfl)
theorem dX4_makeBraces_67 : decode cX4_makeBraces 67 = .ok (.if_icmp .ge 30, 3) := dk_162 0 30 (dk_at dksX4_makeBraces_2 19 rfl rfl)
theorem dX4_makeBraces_70 : decode cX4_makeBraces 70 = .ok (.aload_n 0, 1) := dk_42 (dk_at dksX4_makeBraces_2 22 rfl rfl)
theorem dX4_makeBraces_71 : decode cX4_makeBraces 71 = .ok (.getfield 107, 3) := dk_180 0 107 (dk_at dksX4_makeBraces_3 0 rfl rfl)
theorem dX4_makeBraces_74 : decode cX4_makeBraces 74 = .ok (.iload_n 1, 1) := dk_27 (dk_at dksX4_makeBraces_3 3 rfl rfl)
theorem dX4_makeBraces_75 : decode cX4_makeBraces 75 = .ok (.aload_n 0, 1) := dk_42 (dk_at dksX4_makeBraces_3 4 rfl rfl)
theorem dX4_makeBraces_76 : decode cX4_makeBraces 76 = .ok (.aload_n 0, 1) := dk_42 (dk_at dksX4_makeBraces_3 5 rfl rfl)
theorem dX4_makeBraces_77 : decode cX4_makeBraces 77 = .ok (.getfield 128, 3) := dk_180 0 128 (dk_at dksX4_makeBraces_3 6 rfl rfl)
theorem dX4_makeBraces_80 : decode cX4_makeBraces 80 = .ok (.bipush 65, 2) := dk_16 65 (dk_at dksX4_makeBraces_3 9 rfl rfl)
theorem dX4_makeBraces_82 : decode cX4_makeBraces 82 = .ok (.bipush 6, 2) := dk_16 6 (dk_at dksX4_makeBraces_3 11 rfl rfl)
theorem dX4_makeBraces_84 : decode cX4_makeBraces 84 = .ok (.iload_n 2, 1) := dk_28 (dk_at dksX4_makeBraces_3 13 rfl rfl)
theorem dX4_makeBraces_85 : decode cX4_makeBraces 85 = .ok (.imul, 1) := dk_104 (dk_at dksX4_makeBraces_3 14 rfl rfl)
theorem dX4_makeBraces_86 : decode cX4_makeBraces 86 = .ok (.iload_n 1, 1) := dk_27 (dk_at dksX4_makeBraces_3 15 rfl rfl)
theorem dX4_makeBraces_87 : decode cX4_makeBraces 87 = .ok (.bipush 6, 2) := dk_16 6 (dk_at dksX4_makeBraces_3 16 rfl rfl)
theorem dX4_makeBraces_89 : decode cX4_makeBraces 89 = .ok (.irem, 1) := dk_112 (dk_at dksX4_makeBraces_3 18 rfl rfl)
theorem dX4_makeBraces_90 : decode cX4_makeBraces 90 = .ok (.iadd, 1) := dk_96 (dk_at dksX4_makeBraces_3 19 rfl rfl)
theorem dX4_makeBraces_91 : decode cX4_makeBraces 91 = .ok (.imul, 1) := dk_104 (dk_at dksX4_makeBraces_3 20 rfl rfl)
theorem dX4_makeBraces_92 : decode cX4_makeBraces 92 = .ok (.iconst 0, 1) := dk_3 (dk_at dksX4_makeBraces_3 21 rfl rfl)
theorem dX4_makeBraces_93 : decode cX4_makeBraces 93 = .ok (.invokevirtual 273, 3) := dk_182 1 17 (dk_at dksX4_makeBraces_4 0 rfl rfl)
theorem dX4_makeBraces_96 : decode cX4_makeBraces 96 = .ok (.iastore, 1) := dk_79 (dk_at dksX4_makeBraces_4 3 rfl rfl)
theorem dX4_makeBraces_97 : decode cX4_makeBraces 97 = .ok (.iinc 1 1, 3) := dk_132 1 1 (dk_at dksX4_makeBraces_4 4 rfl rfl)
theorem dX4_makeBraces_100 : decode cX4_makeBraces 100 = .ok (.goto (-69), 3) := dk_167 255 187 (dk_at dksX4_makeBraces_4 7 rfl rfl)
theorem dX4_makeBraces_103 : decode cX4_makeBraces 103 = .ok (.aload_n 0, 1) := dk_42 (dk_at dksX4_makeBraces_4 10 rfl rfl)
theorem dX4_makeBraces_104 : decode cX4_makeBraces 104 = .ok (.iconst 0, 1) := dk_3 (dk_at dksX4_makeBraces_4 11 rfl rfl)
theorem dX4_makeBraces_105 : decode cX4_makeBraces 105 = .ok (.putfield 166, 3) := dk_181 0 166 (dk_at dksX4_makeBraces_4 12 rfl rfl)
theorem dX4_makeBraces_108 : decode cX4_makeBraces 108 = .ok (.aload_n 0, 1) := dk_42 (dk_at dksX4_makeBraces_4 15 rfl rfl)
theorem dX4_makeBraces_109 : decode cX4_makeBraces 109 = .ok (.iconst 0, 1) := dk_3 (dk_at dksX4_makeBraces_4 16 rfl rfl)
theorem dX4_makeBraces_110 : decode cX4_makeBraces 110 = .ok (.putfield 169, 3) := dk_181 0 169 (dk_at dksX4_makeBraces_4 17 rfl rfl)
theorem dX4_makeBraces_113 : decode cX4_makeBraces 113 = .ok (.iconst 0, 1) := dk_3 (dk_at dksX4_makeBraces_4 20 rfl rfl)
theorem dX4_makeBraces_114 : decode cX4_makeBraces 114 = .ok (.istore_n 1, 1) := dk_60 (dk_at dksX4_makeBraces_4 21 rfl rfl)
theorem dX4_makeBraces_115 : decode cX4_makeBraces 115 = .ok (.iload_n 1, 1) := dk_27 (dk_at dksX4_makeBraces_4 22 rfl rfl)
theorem dX4_makeBraces_116 : decode cX4_makeBraces 116 = .ok (.bipush 12, 2) := dk_16 12 (dk_at dksX4_makeBraces_5 0 rfl rfl)
theorem dX4_makeBraces_118 : decode cX4_makeBraces 118 = .ok (.if_icmp .ge 41, 3) := dk_162 0 41 (dk_at dksX4_makeBraces_5 2 rfl rfl)
theorem dX4_makeBraces_121 : decode cX4_makeBraces 121 = .ok (.aload_n 0, 1) := dk_42 (dk_at dksX4_makeBraces_5 5 rfl rfl)
theorem dX4_makeBraces_122 : decode cX4_makeBraces 122 = .ok (.getfield 107, 3) := dk_180 0 107 (dk_at dksX4_makeBraces_5 6 rfl rfl)
theorem dX4_makeBraces_125 : decode cX4_makeBraces 125 = .ok (.iload_n 1, 1) := dk_27 (dk_at dksX4_makeBraces_5 9 rfl rfl)
theorem dX4_makeBraces_126 : decode cX4_makeBraces 126 = .ok (.iaload, 1) := dk_46 (dk_at dksX4_makeBraces_5 10 rfl rfl)
theorem dX4_makeBraces_127 : decode cX4_makeBraces 127 = .ok (.ldc 195, 2) := dk_18 195 (dk_at dksX4_makeBraces_5 11 rfl rfl)
theorem dX4_makeBraces_129 : decode cX4_makeBraces 129 = .ok (.if_icmp .eq 24, 3) := dk_159 0 24 (dk_at dksX4_makeBraces_5 13 rfl rfl)
theorem dX4_makeBraces_132 : decode cX4_makeBraces 132 = .ok (.aload_n 0, 1) := dk_42 (dk_at dksX4_makeBraces_5 16 rfl rfl)
theorem dX4_makeBraces_133 : decode cX4_makeBraces 133 = .ok (.aload_n 0, 1) := dk_42 (dk_at dksX4_makeBraces_5 17 rfl rfl)
theorem dX4_makeBraces_134 : decode cX4_makeBraces 134 = .ok (.getfield 107, 3) := dk_180 0 107 (dk_at dksX4_makeBraces_5 18 rfl rfl)
theorem dX4_makeBraces_137 : decode cX4_makeBraces 137 = .ok (.iload_n 1, 1) := dk_27 (dk_at dksX4_makeBraces_5 21 rfl rfl)
theorem dX4_makeBraces_138 : decode cX4_makeBraces 138 = .ok (.iaload, 1) := dk_46 (dk_at dksX4_makeBraces_5 22 rfl rfl)
theorem dX4_makeBraces_139 : decode cX4_makeBraces 139 = .ok (.iload_n 1, 1) := dk_27 (dk_at dksX4_makeBraces_5 23 rfl rfl)
theorem dX4_makeBraces_140 : decode cX4_makeBraces 140 = .ok (.bipush 6, 2) := dk_16 6 (dk_at dksX4_makeBraces_6 0 rfl rfl)
theorem dX4_makeBraces_142 : decode cX4_makeBraces 142 = .ok (.if_icmp .ge 7, 3) := dk_162 0 7 (dk_at dksX4_makeBraces_6 2 rfl rfl)
theorem dX4_makeBraces_145 : decode cX4_makeBraces 145 = .ok (.iconst 1, 1) := dk_4 (dk_at dksX4_makeBraces_6 5 rfl rfl)
theorem dX4_makeBraces_146 : decode cX4_makeBraces 146 = .ok (.goto 4, 3) := dk_167 0 4 (dk_at dksX4_makeBraces_6 6 rfl rfl)
theorem dX4_makeBraces_149 : decode cX4_makeBraces 149 = .ok (.iconst 0, 1) := dk_3 (dk_at dksX4_makeBraces_6 9 rfl rfl)
theorem dX4_makeBraces_150 : decode cX4_makeBraces 150 = .ok (.invokevirtual 256, 3) := dk_182 1 0 (dk_at dksX4_makeBraces_6 10 rfl rfl)
theorem dX4_makeBraces_153 : decode cX4_makeBraces 153 = .ok (.iinc 1 1, 3) := dk_132 1 1 (dk_at dksX4_makeBraces_6 13 rfl rfl)
theorem dX4_makeBraces_156 : decode cX4_makeBraces 156 = .ok (.goto (-41), 3) := dk_167 255 215 (dk_at dksX4_makeBraces_6 16 rfl rfl)
theorem dX4_makeBraces_159 : decode cX4_makeBraces 159 = .ok (.aload_n 0, 1) := dk_42 (dk_at dksX4_makeBraces_6 19 rfl rfl)
theorem dX4_makeBraces_160 : decode cX4_makeBraces 160 = .ok (.aload_n 0, 1) := dk_42 (dk_at dksX4_makeBraces_6 20 rfl rfl)
theorem dX4_makeBraces_161 : decode cX4_makeBraces 161 = .ok (.aload_n 0, 1) := dk_42 (dk_at dksX4_makeBraces_6 21 rfl rfl)
theorem dX4_makeBraces_162 : decode cX4_makeBraces 162 = .ok (.invokevirtual 267, 3) := dk_182 1 11 (dk_at dksX4_makeBraces_7 0 rfl rfl)
theorem dX4_makeBraces_165 : decode cX4_makeBraces 165 = .ok (.invokevirtual 270, 3) := dk_182 1 14 (dk_at dksX4_makeBraces_7 3 rfl rfl)
theorem dX4_makeBraces_168 : decode cX4_makeBraces 168 = .ok (.ifCond .ne 7, 3) := dk_154 0 7 (dk_at dksX4_makeBraces_7 6 rfl rfl)
theorem dX4_makeBraces_171 : decode cX4_makeBraces 171 = .ok (.iconst 1, 1) := dk_4 (dk_at dksX4_makeBraces_7 9 rfl rfl)
theorem dX4_makeBraces_172 : decode cX4_makeBraces 172 = .ok (.goto 4, 3) := dk_167 0 4 (dk_at dksX4_makeBraces_7 10 rfl rfl)
theorem dX4_makeBraces_175 : decode cX4_makeBraces 175 = .ok (.iconst 0, 1) := dk_3 (dk_at dksX4_makeBraces_7 13 rfl rfl)
theorem dX4_makeBraces_176 : decode cX4_makeBraces 176 = .ok (.putfield 389, 3) := dk_181 1 133 (dk_at dksX4_makeBraces_7 14 rfl rfl)
theorem dX4_makeBraces_179 : decode cX4_makeBraces 179 = .ok (.aload_n 0, 1) := dk_42 (dk_at dksX4_makeBraces_7 17 rfl rfl)
theorem dX4_makeBraces_180 : decode cX4_makeBraces 180 = .ok (.getfield 82, 3) := dk_180 0 82 (dk_at dksX4_makeBraces_7 18 rfl rfl)
theorem dX4_makeBraces_183 : decode cX4_makeBraces 183 = .ok (.iconst 0, 1) := dk_3 (dk_at dksX4_makeBraces_7 21 rfl rfl)
theorem dX4_makeBraces_184 : decode cX4_makeBraces 184 = .ok (.aload_n 0, 1) := dk_42 (dk_at dksX4_makeBraces_7 22 rfl rfl)
theorem dX4_makeBraces_185 : decode cX4_makeBraces 185 = .ok (.getfield 131, 3) := dk_180 0 131 (dk_at dksX4_makeBraces_8 0 rfl rfl)
theorem dX4_makeBraces_188 : decode cX4_makeBraces 188 = .ok (.iconst 0, 1) := dk_3 (dk_at dksX4_makeBraces_8 3 rfl rfl)
theorem dX4_makeBraces_189 : decode cX4_makeBraces 189 = .ok (.invokestatic 231, 3) := dk_184 0 231 (dk_at dksX4_makeBraces_8 4 rfl rfl)
theorem dX4_makeBraces_192 : decode cX4_makeBraces 192 = .ok (.return_, 1) := dk_177 (dk_at dksX4_makeBraces_8 7 rfl rfl)
abbrev cX4_closeTerm : ByteArray := prog_18_method_87_code
def yX4_closeTerm : MethodName := ⟨RX4, "closeTerm", "()V"⟩
def dkwX4_closeTerm_8 : List UInt8 := [42, 28, 154, 0, 7, 4, 167, 0, 4, 3, 181, 1, 133, 42, 180, 0, 119, 42, 180, 1, 142, 4, 84, 177]
abbrev dktX4_closeTerm_8 : List UInt8 := dkwX4_closeTerm_8 ++ []
def dkwX4_closeTerm_7 : List UInt8 := [167, 0, 4, 3, 61, 42, 180, 0, 82, 3, 42, 180, 0, 122, 16, 65, 42, 180, 1, 142, 104, 184, 0, 231]
abbrev dktX4_closeTerm_7 : List UInt8 := dkwX4_closeTerm_7 ++ dktX4_closeTerm_8
def dkwX4_closeTerm_6 : List UInt8 := [180, 1, 142, 104, 184, 0, 231, 167, 0, 39, 28, 153, 0, 14, 42, 182, 1, 30, 153, 0, 7, 4]
abbrev dktX4_closeTerm_6 : List UInt8 := dkwX4_closeTerm_6 ++ dktX4_closeTerm_7
def dkwX4_closeTerm_5 : List UInt8 := [28, 153, 0, 7, 42, 182, 1, 66, 27, 153, 0, 25, 42, 180, 0, 95, 3, 42, 180, 0, 122, 16, 65, 42]
abbrev dktX4_closeTerm_5 : List UInt8 := dkwX4_closeTerm_5 ++ dktX4_closeTerm_6
def dkwX4_closeTerm_4 : List UInt8 := [182, 1, 76, 153, 0, 7, 4, 167, 0, 4, 3, 61, 42, 180, 0, 116, 42, 180, 1, 142, 51, 153, 0, 11]
abbrev dktX4_closeTerm_4 : List UInt8 := dkwX4_closeTerm_4 ++ dktX4_closeTerm_5
def dkwX4_closeTerm_3 : List UInt8 := [180, 0, 122, 16, 65, 42, 180, 1, 142, 104, 42, 180, 0, 92, 3, 184, 0, 231, 27, 154, 0, 10, 42]
abbrev dktX4_closeTerm_3 : List UInt8 := dkwX4_closeTerm_3 ++ dktX4_closeTerm_4
def dkwX4_closeTerm_2 : List UInt8 := [184, 0, 231, 42, 180, 0, 119, 42, 180, 1, 142, 51, 154, 0, 7, 4, 167, 0, 4, 3, 60, 42]
abbrev dktX4_closeTerm_2 : List UInt8 := dkwX4_closeTerm_2 ++ dktX4_closeTerm_3
def dkwX4_closeTerm_1 : List UInt8 := [153, 0, 14, 42, 180, 0, 119, 42, 180, 1, 142, 4, 84, 177, 42, 180, 0, 131, 3, 42, 180, 0, 95, 3]
abbrev dktX4_closeTerm_1 : List UInt8 := dkwX4_closeTerm_1 ++ dktX4_closeTerm_2
def dkwX4_closeTerm_0 : List UInt8 := [42, 5, 181, 1, 148, 42, 180, 1, 126, 154, 0, 17, 42, 180, 1, 130, 153, 0, 10, 42, 180, 1, 133]
abbrev dktX4_closeTerm_0 : List UInt8 := dkwX4_closeTerm_0 ++ dktX4_closeTerm_1
theorem dksX4_closeTerm_0 : cX4_closeTerm.data.toList.drop 0 = dktX4_closeTerm_0 := by decide +kernel
theorem dksX4_closeTerm_1 : cX4_closeTerm.data.toList.drop 23 = dktX4_closeTerm_1 := dk_seg dksX4_closeTerm_0 23 rfl rfl
theorem dksX4_closeTerm_2 : cX4_closeTerm.data.toList.drop 47 = dktX4_closeTerm_2 := dk_seg dksX4_closeTerm_1 24 rfl rfl
theorem dksX4_closeTerm_3 : cX4_closeTerm.data.toList.drop 69 = dktX4_closeTerm_3 := dk_seg dksX4_closeTerm_2 22 rfl rfl
theorem dksX4_closeTerm_4 : cX4_closeTerm.data.toList.drop 92 = dktX4_closeTerm_4 := dk_seg dksX4_closeTerm_3 23 rfl rfl
theorem dksX4_closeTerm_5 : cX4_closeTerm.data.toList.drop 116 = dktX4_closeTerm_5 := dk_seg dksX4_closeTerm_4 24 rfl rfl
theorem dksX4_closeTerm_6 : cX4_closeTerm.data.toList.drop 140 = dktX4_closeTerm_6 := dk_seg dksX4_closeTerm_5 24 rfl rfl
theorem dksX4_closeTerm_7 : cX4_closeTerm.data.toList.drop 162 = dktX4_closeTerm_7 := dk_seg dksX4_closeTerm_6 22 rfl rfl
theorem dksX4_closeTerm_8 : cX4_closeTerm.data.toList.drop 186 = dktX4_closeTerm_8 := dk_seg dksX4_closeTerm_7 24 rfl rfl
theorem dX4_closeTerm_0 : decode cX4_closeTerm 0 = .ok (.aload_n 0, 1) := dk_42 (dk_at dksX4_closeTerm_0 0 rfl rfl)
theorem dX4_closeTerm_1 : decode cX4_closeTerm 1 = .ok (.iconst 2, 1) := dk_5 (dk_at dksX4_closeTerm_0 1 rfl rfl)
theorem dX4_closeTerm_2 : decode cX4_closeTerm 2 = .ok (.putfield 404, 3) := dk_181 1 148 (dk_at dksX4_closeTerm_0 2 rfl rfl)
theorem dX4_closeTerm_5 : decode cX4_closeTerm 5 = .ok (.aload_n 0, 1) := dk_42 (dk_at dksX4_closeTerm_0 5 rfl rfl)
theorem dX4_closeTerm_6 : decode cX4_closeTerm 6 = .ok (.getfield 382, 3) := dk_180 1 126 (dk_at dksX4_closeTerm_0 6 rfl rfl)
theorem dX4_closeTerm_9 : decode cX4_closeTerm 9 = .ok (.ifCond .ne 17, 3) := dk_154 0 17 (dk_at dksX4_closeTerm_0 9 rfl rfl)
theorem dX4_closeTerm_12 : decode cX4_closeTerm 12 = .ok (.aload_n 0, 1) := dk_42 (dk_at dksX4_closeTerm_0 12 rfl rfl)
theorem dX4_closeTerm_13 : decode cX4_closeTerm 13 = .ok (.getfield 386, 3) := dk_180 1 130 (dk_at dksX4_closeTerm_0 13 rfl rfl)
theorem dX4_closeTerm_16 : decode cX4_closeTerm 16 = .ok (.ifCond .eq 10, 3) := dk_153 0 10 (dk_at dksX4_closeTerm_0 16 rfl rfl)
theorem dX4_closeTerm_19 : decode cX4_closeTerm 19 = .ok (.aload_n 0, 1) := dk_42 (dk_at dksX4_closeTerm_0 19 rfl rfl)
theorem dX4_closeTerm_20 : decode cX4_closeTerm 20 = .ok (.getfield 389, 3) := dk_180 1 133 (dk_at dksX4_closeTerm_0 20 rfl rfl)
theorem dX4_closeTerm_23 : decode cX4_closeTerm 23 = .ok (.ifCond .eq 14, 3) := dk_153 0 14 (dk_at dksX4_closeTerm_1 0 rfl rfl)
theorem dX4_closeTerm_26 : decode cX4_closeTerm 26 = .ok (.aload_n 0, 1) := dk_42 (dk_at dksX4_closeTerm_1 3 rfl rfl)
theorem dX4_closeTerm_27 : decode cX4_closeTerm 27 = .ok (.getfield 119, 3) := dk_180 0 119 (dk_at dksX4_closeTerm_1 4 rfl rfl)
theorem dX4_closeTerm_30 : decode cX4_closeTerm 30 = .ok (.aload_n 0, 1) := dk_42 (dk_at dksX4_closeTerm_1 7 rfl rfl)
theorem dX4_closeTerm_31 : decode cX4_closeTerm 31 = .ok (.getfield 398, 3) := dk_180 1 142 (dk_at dksX4_closeTerm_1 8 rfl rfl)
theorem dX4_closeTerm_34 : decode cX4_closeTerm 34 = .ok (.iconst 1, 1) := dk_4 (dk_at dksX4_closeTerm_1 11 rfl rfl)
theorem dX4_closeTerm_35 : decode cX4_closeTerm 35 = .ok (.bastore, 1) := dk_84 (dk_at dksX4_closeTerm_1 12 rfl rfl)
theorem dX4_closeTerm_36 : decode cX4_closeTerm 36 = .ok (.return_, 1) := dk_177 (dk_at dksX4_closeTerm_1 13 rfl rfl)
theorem dX4_closeTerm_37 : decode cX4_closeTerm 37 = .ok (.aload_n 0, 1) := dk_42 (dk_at dksX4_closeTerm_1 14 rfl rfl)
theorem dX4_closeTerm_38 : decode cX4_closeTerm 38 = .ok (.getfield 131, 3) := dk_180 0 131 (dk_at dksX4_closeTerm_1 15 rfl rfl)
theorem dX4_closeTerm_41 : decode cX4_closeTerm 41 = .ok (.iconst 0, 1) := dk_3 (dk_at dksX4_closeTerm_1 18 rfl rfl)
theorem dX4_closeTerm_42 : decode cX4_closeTerm 42 = .ok (.aload_n 0, 1) := dk_42 (dk_at dksX4_closeTerm_1 19 rfl rfl)
theorem dX4_closeTerm_43 : decode cX4_closeTerm 43 = .ok (.getfield 95, 3) := dk_180 0 95 (dk_at dksX4_closeTerm_1 20 rfl rfl)
theorem dX4_closeTerm_46 : decode cX4_closeTerm 46 = .ok (.iconst 0, 1) := dk_3 (dk_at dksX4_closeTerm_1 23 rfl rfl)
theorem dX4_closeTerm_47 : decode cX4_closeTerm 47 = .ok (.invokestatic 231, 3) := dk_184 0 231 (dk_at dksX4_closeTerm_2 0 rfl rfl)
theorem dX4_closeTerm_50 : decode cX4_closeTerm 50 = .ok (.aload_n 0, 1) := dk_42 (dk_at dksX4_closeTerm_2 3 rfl rfl)
theorem dX4_closeTerm_51 : decode cX4_closeTerm 51 = .ok (.getfield 119, 3) := dk_180 0 119 (dk_at dksX4_closeTerm_2 4 rfl rfl)
theorem dX4_closeTerm_54 : decode cX4_closeTerm 54 = .ok (.aload_n 0, 1) := dk_42 (dk_at dksX4_closeTerm_2 7 rfl rfl)
theorem dX4_closeTerm_55 : decode cX4_closeTerm 55 = .ok (.getfield 398, 3) := dk_180 1 142 (dk_at dksX4_closeTerm_2 8 rfl rfl)
theorem dX4_closeTerm_58 : decode cX4_closeTerm 58 = .ok (.baload, 1) := dk_51 (dk_at dksX4_closeTerm_2 11 rfl rfl)
theorem dX4_closeTerm_59 : decode cX4_closeTerm 59 = .ok (.ifCond .ne 7, 3) := dk_154 0 7 (dk_at dksX4_closeTerm_2 12 rfl rfl)
theorem dX4_closeTerm_62 : decode cX4_closeTerm 62 = .ok (.iconst 1, 1) := dk_4 (dk_at dksX4_closeTerm_2 15 rfl rfl)
theorem dX4_closeTerm_63 : decode cX4_closeTerm 63 = .ok (.goto 4, 3) := dk_167 0 4 (dk_at dksX4_closeTerm_2 16 rfl rfl)
theorem dX4_closeTerm_66 : decode cX4_closeTerm 66 = .ok (.iconst 0, 1) := dk_3 (dk_at dksX4_closeTerm_2 19 rfl rfl)
theorem dX4_closeTerm_67 : decode cX4_closeTerm 67 = .ok (.istore_n 1, 1) := dk_60 (dk_at dksX4_closeTerm_2 20 rfl rfl)
theorem dX4_closeTerm_68 : decode cX4_closeTerm 68 = .ok (.aload_n 0, 1) := dk_42 (dk_at dksX4_closeTerm_2 21 rfl rfl)
theorem dX4_closeTerm_69 : decode cX4_closeTerm 69 = .ok (.getfield 122, 3) := dk_180 0 122 (dk_at dksX4_closeTerm_3 0 rfl rfl)
theorem dX4_closeTerm_72 : decode cX4_closeTerm 72 = .ok (.bipush 65, 2) := dk_16 65 (dk_at dksX4_closeTerm_3 3 rfl rfl)
theorem dX4_closeTerm_74 : decode cX4_closeTerm 74 = .ok (.aload_n 0, 1) := dk_42 (dk_at dksX4_closeTerm_3 5 rfl rfl)
theorem dX4_closeTerm_75 : decode cX4_closeTerm 75 = .ok (.getfield 398, 3) := dk_180 1 142 (dk_at dksX4_closeTerm_3 6 rfl rfl)
theorem dX4_closeTerm_78 : decode cX4_closeTerm 78 = .ok (.imul, 1) := dk_104 (dk_at dksX4_closeTerm_3 9 rfl rfl)
theorem dX4_closeTerm_79 : decode cX4_closeTerm 79 = .ok (.aload_n 0, 1) := dk_42 (dk_at dksX4_closeTerm_3 10 rfl rfl)
theorem dX4_closeTerm_80 : decode cX4_closeTerm 80 = .ok (.getfield 92, 3) := dk_180 0 92 (dk_at dksX4_closeTerm_3 11 rfl rfl)
theorem dX4_closeTerm_83 : decode cX4_closeTerm 83 = .ok (.iconst 0, 1) := dk_3 (dk_at dksX4_closeTerm_3 14 rfl rfl)
theorem dX4_closeTerm_84 : decode cX4_closeTerm 84 = .ok (.invokestatic 231, 3) := dk_184 0 231 (dk_at dksX4_closeTerm_3 15 rfl rfl)
theorem dX4_closeTerm_87 : decode cX4_closeTerm 87 = .ok (.iload_n 1, 1) := dk_27 (dk_at dksX4_closeTerm_3 18 rfl rfl)
theorem dX4_closeTerm_88 : decode cX4_closeTerm 88 = .ok (.ifCond .ne 10, 3) := dk_154 0 10 (dk_at dksX4_closeTerm_3 19 rfl rfl)
theorem dX4_closeTerm_91 : decode cX4_closeTerm 91 = .ok (.aload_n 0, 1) := dk_42 (dk_at dksX4_closeTerm_3 22 rfl rfl)
theorem dX4_closeTerm_92 : decode cX4_closeTerm 92 = .ok (.invokevirtual 332, 3) := dk_182 1 76 (dk_at dksX4_closeTerm_4 0 rfl rfl)
theorem dX4_closeTerm_95 : decode cX4_closeTerm 95 = .ok (.ifCond .eq 7, 3) := dk_153 0 7 (dk_at dksX4_closeTerm_4 3 rfl rfl)
theorem dX4_closeTerm_98 : decode cX4_closeTerm 98 = .ok (.iconst 1, 1) := dk_4 (dk_at dksX4_closeTerm_4 6 rfl rfl)
theorem dX4_closeTerm_99 : decode cX4_closeTerm 99 = .ok (.goto 4, 3) := dk_167 0 4 (dk_at dksX4_closeTerm_4 7 rfl rfl)
theorem dX4_closeTerm_102 : decode cX4_closeTerm 102 = .ok (.iconst 0, 1) := dk_3 (dk_at dksX4_closeTerm_4 10 rfl rfl)
theorem dX4_closeTerm_103 : decode cX4_closeTerm 103 = .ok (.istore_n 2, 1) := dk_61 (dk_at dksX4_closeTerm_4 11 rfl rfl)
theorem dX4_closeTerm_104 : decode cX4_closeTerm 104 = .ok (.aload_n 0, 1) := dk_42 (dk_at dksX4_closeTerm_4 12 rfl rfl)
theorem dX4_closeTerm_105 : decode cX4_closeTerm 105 = .ok (.getfield 116, 3) := dk_180 0 116 (dk_at dksX4_closeTerm_4 13 rfl rfl)
theorem dX4_closeTerm_108 : decode cX4_closeTerm 108 = .ok (.aload_n 0, 1) := dk_42 (dk_at dksX4_closeTerm_4 16 rfl rfl)
theorem dX4_closeTerm_109 : decode cX4_closeTerm 109 = .ok (.getfield 398, 3) := dk_180 1 142 (dk_at dksX4_closeTerm_4 17 rfl rfl)
theorem dX4_closeTerm_112 : decode cX4_closeTerm 112 = .ok (.baload, 1) := dk_51 (dk_at dksX4_closeTerm_4 20 rfl rfl)
theorem dX4_closeTerm_113 : decode cX4_closeTerm 113 = .ok (.ifCond .eq 11, 3) := dk_153 0 11 (dk_at dksX4_closeTerm_4 21 rfl rfl)
theorem dX4_closeTerm_116 : decode cX4_closeTerm 116 = .ok (.iload_n 2, 1) := dk_28 (dk_at dksX4_closeTerm_5 0 rfl rfl)
theorem dX4_closeTerm_117 : decode cX4_closeTerm 117 = .ok (.ifCond .eq 7, 3) := dk_153 0 7 (dk_at dksX4_closeTerm_5 1 rfl rfl)
theorem dX4_closeTerm_120 : decode cX4_closeTerm 120 = .ok (.aload_n 0, 1) := dk_42 (dk_at dksX4_closeTerm_5 4 rfl rfl)
theorem dX4_closeTerm_121 : decode cX4_closeTerm 121 = .ok (.invokevirtual 322, 3) := dk_182 1 66 (dk_at dksX4_closeTerm_5 5 rfl rfl)
theorem dX4_closeTerm_124 : decode cX4_closeTerm 124 = .ok (.iload_n 1, 1) := dk_27 (dk_at dksX4_closeTerm_5 8 rfl rfl)
theorem dX4_closeTerm_125 : decode cX4_closeTerm 125 = .ok (.ifCond .eq 25, 3) := dk_153 0 25 (dk_at dksX4_closeTerm_5 9 rfl rfl)
theorem dX4_closeTerm_128 : decode cX4_closeTerm 128 = .ok (.aload_n 0, 1) := dk_42 (dk_at dksX4_closeTerm_5 12 rfl rfl)
theorem dX4_closeTerm_129 : decode cX4_closeTerm 129 = .ok (.getfield 95, 3) := dk_180 0 95 (dk_at dksX4_closeTerm_5 13 rfl rfl)
theorem dX4_closeTerm_132 : decode cX4_closeTerm 132 = .ok (.iconst 0, 1) := dk_3 (dk_at dksX4_closeTerm_5 16 rfl rfl)
theorem dX4_closeTerm_133 : decode cX4_closeTerm 133 = .ok (.aload_n 0, 1) := dk_42 (dk_at dksX4_closeTerm_5 17 rfl rfl)
theorem dX4_closeTerm_134 : decode cX4_closeTerm 134 = .ok (.getfield 122, 3) := dk_180 0 122 (dk_at dksX4_closeTerm_5 18 rfl rfl)
theorem dX4_closeTerm_137 : decode cX4_closeTerm 137 = .ok (.bipush 65, 2) := dk_16 65 (dk_at dksX4_closeTerm_5 21 rfl rfl)
theorem dX4_closeTerm_139 : decode cX4_closeTerm 139 = .ok (.aload_n 0, 1) := dk_42 (dk_at dksX4_closeTerm_5 23 rfl rfl)
theorem dX4_closeTerm_140 : decode cX4_closeTerm 140 = .ok (.getfield 398, 3) := dk_180 1 142 (dk_at dksX4_closeTerm_6 0 rfl rfl)
theorem dX4_closeTerm_143 : decode cX4_closeTerm 143 = .ok (.imul, 1) := dk_104 (dk_at dksX4_closeTerm_6 3 rfl rfl)
theorem dX4_closeTerm_144 : decode cX4_closeTerm 144 = .ok (.invokestatic 231, 3) := dk_184 0 231 (dk_at dksX4_closeTerm_6 4 rfl rfl)
theorem dX4_closeTerm_147 : decode cX4_closeTerm 147 = .ok (.goto 39, 3) := dk_167 0 39 (dk_at dksX4_closeTerm_6 7 rfl rfl)
theorem dX4_closeTerm_150 : decode cX4_closeTerm 150 = .ok (.iload_n 2, 1) := dk_28 (dk_at dksX4_closeTerm_6 10 rfl rfl)
theorem dX4_closeTerm_151 : decode cX4_closeTerm 151 = .ok (.ifCond .eq 14, 3) := dk_153 0 14 (dk_at dksX4_closeTerm_6 11 rfl rfl)
theorem dX4_closeTerm_154 : decode cX4_closeTerm 154 = .ok (.aload_n 0, 1) := dk_42 (dk_at dksX4_closeTerm_6 14 rfl rfl)
theorem dX4_closeTerm_155 : decode cX4_closeTerm 155 = .ok (.invokevirtual 286, 3) := dk_182 1 30 (dk_at dksX4_closeTerm_6 15 rfl rfl)
theorem dX4_closeTerm_158 : decode cX4_closeTerm 158 = .ok (.ifCond .eq 7, 3) := dk_153 0 7 (dk_at dksX4_closeTerm_6 18 rfl rfl)
theorem dX4_closeTerm_161 : decode cX4_closeTerm 161 = .ok (.iconst 1, 1) := dk_4 (dk_at dksX4_closeTerm_6 21 rfl rfl)
theorem dX4_closeTerm_162 : decode cX4_closeTerm 162 = .ok (.goto 4, 3) := dk_167 0 4 (dk_at dksX4_closeTerm_7 0 rfl rfl)
theorem dX4_closeTerm_165 : decode cX4_closeTerm 165 = .ok (.iconst 0, 1) := dk_3 (dk_at dksX4_closeTerm_7 3 rfl rfl)
theorem dX4_closeTerm_166 : decode cX4_closeTerm 166 = .ok (.istore_n 2, 1) := dk_61 (dk_at dksX4_closeTerm_7 4 rfl rfl)
theorem dX4_closeTerm_167 : decode cX4_closeTerm 167 = .ok (.aload_n 0, 1) := dk_42 (dk_at dksX4_closeTerm_7 5 rfl rfl)
theorem dX4_closeTerm_168 : decode cX4_closeTerm 168 = .ok (.getfield 82, 3) := dk_180 0 82 (dk_at dksX4_closeTerm_7 6 rfl rfl)
theorem dX4_closeTerm_171 : decode cX4_closeTerm 171 = .ok (.iconst 0, 1) := dk_3 (dk_at dksX4_closeTerm_7 9 rfl rfl)
theorem dX4_closeTerm_172 : decode cX4_closeTerm 172 = .ok (.aload_n 0, 1) := dk_42 (dk_at dksX4_closeTerm_7 10 rfl rfl)
theorem dX4_closeTerm_173 : decode cX4_closeTerm 173 = .ok (.getfield 122, 3) := dk_180 0 122 (dk_at dksX4_closeTerm_7 11 rfl rfl)
theorem dX4_closeTerm_176 : decode cX4_closeTerm 176 = .ok (.bipush 65, 2) := dk_16 65 (dk_at dksX4_closeTerm_7 14 rfl rfl)
theorem dX4_closeTerm_178 : decode cX4_closeTerm 178 = .ok (.aload_n 0, 1) := dk_42 (dk_at dksX4_closeTerm_7 16 rfl rfl)
theorem dX4_closeTerm_179 : decode cX4_closeTerm 179 = .ok (.getfield 398, 3) := dk_180 1 142 (dk_at dksX4_closeTerm_7 17 rfl rfl)
theorem dX4_closeTerm_182 : decode cX4_closeTerm 182 = .ok (.imul, 1) := dk_104 (dk_at dksX4_closeTerm_7 20 rfl rfl)
theorem dX4_closeTerm_183 : decode cX4_closeTerm 183 = .ok (.invokestatic 231, 3) := dk_184 0 231 (dk_at dksX4_closeTerm_7 21 rfl rfl)
theorem dX4_closeTerm_186 : decode cX4_closeTerm 186 = .ok (.aload_n 0, 1) := dk_42 (dk_at dksX4_closeTerm_8 0 rfl rfl)
theorem dX4_closeTerm_187 : decode cX4_closeTerm 187 = .ok (.iload_n 2, 1) := dk_28 (dk_at dksX4_closeTerm_8 1 rfl rfl)
theorem dX4_closeTerm_188 : decode cX4_closeTerm 188 = .ok (.ifCond .ne 7, 3) := dk_154 0 7 (dk_at dksX4_closeTerm_8 2 rfl rfl)
theorem dX4_closeTerm_191 : decode cX4_closeTerm 191 = .ok (.iconst 1, 1) := dk_4 (dk_at dksX4_closeTerm_8 5 rfl rfl)
theorem dX4_closeTerm_192 : decode cX4_closeTerm 192 = .ok (.goto 4, 3) := dk_167 0 4 (dk_at dksX4_closeTerm_8 6 rfl rfl)
theorem dX4_closeTerm_195 : decode cX4_closeTerm 195 = .ok (.iconst 0, 1) := dk_3 (dk_at dksX4_closeTerm_8 9 rfl rfl)
theorem dX4_closeTerm_196 : decode cX4_closeTerm 196 = .ok (.putfield 389, 3) := dk_181 1 133 (dk_at dksX4_closeTerm_8 10 rfl rfl)
theorem dX4_closeTerm_199 : decode cX4_closeTerm 199 = .ok (.aload_n 0, 1) := dk_42 (dk_at dksX4_closeTerm_8 13 rfl rfl)
theorem dX4_closeTerm_200 : decode cX4_closeTerm 200 = .ok (.getfield 119, 3) := dk_180 0 119 (dk_at dksX4_closeTerm_8 14 rfl rfl)
theorem dX4_closeTerm_203 : decode cX4_closeTerm 203 = .ok (.aload_n 0, 1) := dk_42 (dk_at dksX4_closeTerm_8 17 rfl rfl)
theorem dX4_closeTerm_204 : decode cX4_closeTerm 204 = .ok (.getfield 398, 3) := dk_180 1 142 (dk_at dksX4_closeTerm_8 18 rfl rfl)
theorem dX4_closeTerm_207 : decode cX4_closeTerm 207 = .ok (.iconst 1, 1) := dk_4 (dk_at dksX4_closeTerm_8 21 rfl rfl)
theorem dX4_closeTerm_208 : decode cX4_closeTerm 208 = .ok (.bastore, 1) := dk_84 (dk_at dksX4_closeTerm_8 22 rfl rfl)
theorem dX4_closeTerm_209 : decode cX4_closeTerm 209 = .ok (.return_, 1) := dk_177 (dk_at dksX4_closeTerm_8 23 rfl rfl)
abbrev cX4_closeElement : ByteArray := prog_18_method_88_code
def yX4_closeElement : MethodName := ⟨RX4, "closeElement", "()V"⟩
def dkwX4_closeElement_2 : List UInt8 := [180, 0, 125, 27, 46, 96, 104, 184, 0, 231, 42, 180, 0, 125, 27, 92, 46, 4, 96, 79, 177]
abbrev dktX4_closeElement_2 : List UInt8 := dkwX4_closeElement_2 ++ []
def dkwX4_closeElement_1 : List UInt8 := [96, 60, 42, 180, 0, 122, 16, 65, 42, 180, 1, 142, 104, 42, 180, 0, 128, 16, 65, 16, 6, 27, 104, 42]
abbrev dktX4_closeElement_1 : List UInt8 := dkwX4_closeElement_1 ++ dktX4_closeElement_2
def dkwX4_closeElement_0 : List UInt8 := [5, 42, 180, 1, 142, 104, 42, 180, 0, 113, 42, 180, 1, 142, 46, 5, 160, 0, 7, 3, 167, 0, 4, 4]
abbrev dktX4_closeElement_0 : List UInt8 := dkwX4_closeElement_0 ++ dktX4_closeElement_1
theorem dksX4_closeElement_0 : cX4_closeElement.data.toList.drop 0 = dktX4_closeElement_0 := by decide +kernel
theorem dksX4_closeElement_1 : cX4_closeElement.data.toList.drop 24 = dktX4_closeElement_1 := dk_seg dksX4_closeElement_0 24 rfl rfl
theorem dksX4_closeElement_2 : cX4_closeElement.data.toList.drop 48 = dktX4_closeElement_2 := dk_seg dksX4_closeElement_1 24 rfl rfl
theorem dX4_closeElement_0 : decode cX4_closeElement 0 = .ok (.iconst 2, 1) := dk_5 (dk_at dksX4_closeElement_0 0 rfl rfl)
theorem dX4_closeElement_1 : decode cX4_closeElement 1 = .ok (.aload_n 0, 1) := dk_42 (dk_at dksX4_closeElement_0 1 rfl rfl)
theorem dX4_closeElement_2 : decode cX4_closeElement 2 = .ok (.getfield 398, 3) := dk_180 1 142 (dk_at dksX4_closeElement_0 2 rfl rfl)
theorem dX4_closeElement_5 : decode cX4_closeElement 5 = .ok (.imul, 1) := dk_104 (dk_at dksX4_closeElement_0 5 rfl rfl)
theorem dX4_closeElement_6 : decode cX4_closeElement 6 = .ok (.aload_n 0, 1) := dk_42 (dk_at dksX4_closeElement_0 6 rfl rfl)
theorem dX4_closeElement_7 : decode cX4_closeElement 7 = .ok (.getfield 113, 3) := dk_180 0 113 (dk_at dksX4_closeElement_0 7 rfl rfl)
theorem dX4_closeElement_10 : decode cX4_closeElement 10 = .ok (.aload_n 0, 1) := dk_42 (dk_at dksX4_closeElement_0 10 rfl rfl)
theorem dX4_closeElement_11 : decode cX4_closeElement 11 = .ok (.getfield 398, 3) := dk_180 1 142 (dk_at dksX4_closeElement_0 11 rfl rfl)
theorem dX4_closeElement_14 : decode cX4_closeElement 14 = .ok (.iaload, 1) := dk_46 (dk_at dksX4_closeElement_0 14 rfl rfl)
theorem dX4_closeElement_15 : decode cX4_closeElement 15 = .ok (.iconst 2, 1) := dk_5 (dk_at dksX4_closeElement_0 15 rfl rfl)
theorem dX4_closeElement_16 : decode cX4_closeElement 16 = .ok (.if_icmp .ne 7, 3) := dk_160 0 7 (dk_at dksX4_closeElement_0 16 rfl rfl)
theorem dX4_closeElement_19 : decode cX4_closeElement 19 = .ok (.iconst 0, 1) := dk_3 (dk_at dksX4_closeElement_0 19 rfl rfl)
theorem dX4_closeElement_20 : decode cX4_closeElement 20 = .ok (.goto 4, 3) := dk_167 0 4 (dk_at dksX4_closeElement_0 20 rfl rfl)
theorem dX4_closeElement_23 : decode cX4_closeElement 23 = .ok (.iconst 1, 1) := dk_4 (dk_at dksX4_closeElement_0 23 rfl rfl)
theorem dX4_closeElement_24 : decode cX4_closeElement 24 = .ok (.iadd, 1) := dk_96 (dk_at dksX4_closeElement_1 0 rfl rfl)
theorem dX4_closeElement_25 : decode cX4_closeElement 25 = .ok (.istore_n 1, 1) := dk_60 (dk_at dksX4_closeElement_1 1 rfl rfl)
theorem dX4_closeElement_26 : decode cX4_closeElement 26 = .ok (.aload_n 0, 1) := dk_42 (dk_at dksX4_closeElement_1 2 rfl rfl)
theorem dX4_closeElement_27 : decode cX4_closeElement 27 = .ok (.getfield 122, 3) := dk_180 0 122 (dk_at dksX4_closeElement_1 3 rfl rfl)
theorem dX4_closeElement_30 : decode cX4_closeElement 30 = .ok (.bipush 65, 2) := dk_16 65 (dk_at dksX4_closeElement_1 6 rfl rfl)
theorem dX4_closeElement_32 : decode cX4_closeElement 32 = .ok (.aload_n 0, 1) := dk_42 (dk_at dksX4_closeElement_1 8 rfl rfl)
theorem dX4_closeElement_33 : decode cX4_closeElement 33 = .ok (.getfield 398, 3) := dk_180 1 142 (dk_at dksX4_closeElement_1 9 rfl rfl)
theorem dX4_closeElement_36 : decode cX4_closeElement 36 = .ok (.imul, 1) := dk_104 (dk_at dksX4_closeElement_1 12 rfl rfl)
theorem dX4_closeElement_37 : decode cX4_closeElement 37 = .ok (.aload_n 0, 1) := dk_42 (dk_at dksX4_closeElement_1 13 rfl rfl)
theorem dX4_closeElement_38 : decode cX4_closeElement 38 = .ok (.getfield 128, 3) := dk_180 0 128 (dk_at dksX4_closeElement_1 14 rfl rfl)
theorem dX4_closeElement_41 : decode cX4_closeElement 41 = .ok (.bipush 65, 2) := dk_16 65 (dk_at dksX4_closeElement_1 17 rfl rfl)
theorem dX4_closeElement_43 : decode cX4_closeElement 43 = .ok (.bipush 6, 2) := dk_16 6 (dk_at dksX4_closeElement_1 19 rfl rfl)
theorem dX4_closeElement_45 : decode cX4_closeElement 45 = .ok (.iload_n 1, 1) := dk_27 (dk_at dksX4_closeElement_1 21 rfl rfl)
theorem dX4_closeElement_46 : decode cX4_closeElement 46 = .ok (.imul, 1) := dk_104 (dk_at dksX4_closeElement_1 22 rfl rfl)
theorem dX4_closeElement_47 : decode cX4_closeElement 47 = .ok (.aload_n 0, 1) := dk_42 (dk_at dksX4_closeElement_1 23 rfl rfl)
theorem dX4_closeElement_48 : decode cX4_closeElement 48 = .ok (.getfield 125, 3) := dk_180 0 125 (dk_at dksX4_closeElement_2 0 rfl rfl)
theorem dX4_closeElement_51 : decode cX4_closeElement 51 = .ok (.iload_n 1, 1) := dk_27 (dk_at dksX4_closeElement_2 3 rfl rfl)
theorem dX4_closeElement_52 : decode cX4_closeElement 52 = .ok (.iaload, 1) := dk_46 (dk_at dksX4_closeElement_2 4 rfl rfl)
theorem dX4_closeElement_53 : decode cX4_closeElement 53 = .ok (.iadd, 1) := dk_96 (dk_at dksX4_closeElement_2 5 rfl rfl)
theorem dX4_closeElement_54 : decode cX4_closeElement 54 = .ok (.imul, 1) := dk_104 (dk_at dksX4_closeElement_2 6 rfl rfl)
theorem dX4_closeElement_55 : decode cX4_closeElement 55 = .ok (.invokestatic 231, 3) := dk_184 0 231 (dk_at dksX4_closeElement_2 7 rfl rfl)
theorem dX4_closeElement_58 : decode cX4_closeElement 58 = .ok (.aload_n 0, 1) := dk_42 (dk_at dksX4_closeElement_2 10 rfl rfl)
theorem dX4_closeElement_59 : decode cX4_closeElement 59 = .ok (.getfield 125, 3) := dk_180 0 125 (dk_at dksX4_closeElement_2 11 rfl rfl)
theorem dX4_closeElement_62 : decode cX4_closeElement 62 = .ok (.iload_n 1, 1) := dk_27 (dk_at dksX4_closeElement_2 14 rfl rfl)
theorem dX4_closeElement_63 : decode cX4_closeElement 63 = .ok (.dup2, 1) := dk_92 (dk_at dksX4_closeElement_2 15 rfl rfl)
theorem dX4_closeElement_64 : decode cX4_closeElement 64 = .ok (.iaload, 1) := dk_46 (dk_at dksX4_closeElement_2 16 rfl rfl)
theorem dX4_closeElement_65 : decode cX4_closeElement 65 = .ok (.iconst 1, 1) := dk_4 (dk_at dksX4_closeElement_2 17 rfl rfl)
theorem dX4_closeElement_66 : decode cX4_closeElement 66 = .ok (.iadd, 1) := dk_96 (dk_at dksX4_closeElement_2 18 rfl rfl)
theorem dX4_closeElement_67 : decode cX4_closeElement 67 = .ok (.iastore, 1) := dk_79 (dk_at dksX4_closeElement_2 19 rfl rfl)
theorem dX4_closeElement_68 : decode cX4_closeElement 68 = .ok (.return_, 1) := dk_177 (dk_at dksX4_closeElement_2 20 rfl rfl)
abbrev cX4_readBegin : ByteArray := prog_18_method_91_code
def yX4_readBegin : MethodName := ⟨RX4, "readBegin", "(I)V"⟩
def dkwX4_readBegin_7 : List UInt8 := [180, 1, 142, 4, 84, 42, 4, 181, 1, 148, 167, 0, 8, 42, 27, 182, 1, 160, 177]
abbrev dktX4_readBegin_7 : List UInt8 := dkwX4_readBegin_7 ++ []
def dkwX4_readBegin_6 : List UInt8 := [167, 0, 42, 27, 16, 45, 160, 0, 31, 42, 89, 180, 1, 108, 4, 96, 181, 1, 108, 42, 180, 0, 116, 42]
abbrev dktX4_readBegin_6 : List UInt8 := dkwX4_readBegin_6 ++ dktX4_readBegin_7
def dkwX4_readBegin_5 : List UInt8 := [180, 0, 113, 42, 180, 1, 142, 46, 6, 160, 0, 16, 27, 16, 125, 160, 0, 10, 42, 182, 1, 157]
abbrev dktX4_readBegin_5 : List UInt8 := dkwX4_readBegin_5 ++ dktX4_readBegin_6
def dkwX4_readBegin_4 : List UInt8 := [42, 180, 0, 113, 42, 180, 1, 142, 6, 79, 42, 182, 1, 145, 167, 0, 72, 29, 153, 0, 29, 42]
abbrev dktX4_readBegin_4 : List UInt8 := dkwX4_readBegin_4 ++ dktX4_readBegin_5
def dkwX4_readBegin_3 : List UInt8 := [180, 1, 142, 46, 5, 160, 0, 36, 27, 16, 124, 160, 0, 30, 42, 89, 180, 1, 108, 4, 96, 181, 1, 108]
abbrev dktX4_readBegin_3 : List UInt8 := dkwX4_readBegin_3 ++ dktX4_readBegin_4
def dkwX4_readBegin_2 : List UInt8 := [167, 0, 4, 4, 96, 46, 154, 0, 7, 4, 167, 0, 4, 3, 62, 29, 153, 0, 49, 42, 180, 0, 113, 42]
abbrev dktX4_readBegin_2 : List UInt8 := dkwX4_readBegin_2 ++ dktX4_readBegin_3
def dkwX4_readBegin_1 : List UInt8 := [180, 0, 125, 5, 42, 180, 1, 142, 104, 42, 180, 0, 113, 42, 180, 1, 142, 46, 5, 160, 0, 7, 3]
abbrev dktX4_readBegin_1 : List UInt8 := dkwX4_readBegin_1 ++ dktX4_readBegin_2
def dkwX4_readBegin_0 : List UInt8 := [42, 180, 0, 113, 42, 180, 1, 142, 46, 5, 161, 0, 7, 4, 167, 0, 4, 3, 61, 28, 153, 0, 40, 42]
abbrev dktX4_readBegin_0 : List UInt8 := dkwX4_readBegin_0 ++ dktX4_readBegin_1
theorem dksX4_readBegin_0 : cX4_readBegin.data.toList.drop 0 = dktX4_readBegin_0 := by decide +kernel
theorem dksX4_readBegin_1 : cX4_readBegin.data.toList.drop 24 = dktX4_readBegin_1 := dk_seg dksX4_readBegin_0 24 rfl rfl
theorem dksX4_readBegin_2 : cX4_readBegin.data.toList.drop 47 = dktX4_readBegin_2 := dk_seg dksX4_readBegin_1 23 rfl rfl
theorem dksX4_readBegin_3 : cX4_readBegin.data.toList.drop 71 = dktX4_readBegin_3 := dk_seg dksX4_readBegin_2 24 rfl rfl
theorem dksX4_readBegin_4 : cX4_readBegin.data.toList.drop 95 = dktX4_readBegin_4 := dk_seg dksX4_readBegin_3 24 rfl rfl
theorem dksX4_readBegin_5 : cX4_readBegin.data.toList.drop 117 = dktX4_readBegin_5 := dk_seg dksX4_readBegin_4 22 rfl rfl
theorem dksX4_readBegin_6 : cX4_readBegin.data.toList.drop 139 = dktX4_readBegin_6 := dk_seg dksX4_readBegin_5 22 rfl rfl
theorem dksX4_readBegin_7 : cX4_readBegin.data.toList.drop 163 = dktX4_readBegin_7 := dk_seg dksX4_readBegin_6 24 rfl rfl
theorem dX4_readBegin_0 : decode cX4_readBegin 0 = .ok (.aload_n 0, 1) := dk_42 (dk_at dksX4_readBegin_0 0 rfl rfl)
theorem dX4_readBegin_1 : decode cX4_readBegin 1 = .ok (.getfield 113, 3) := dk_180 0 113 (dk_at dksX4_readBegin_0 1 rfl rfl)
theorem dX4_readBegin_4 : decode cX4_readBegin 4 = .ok (.aload_n 0, 1) := dk_42 (dk_at dksX4_readBegin_0 4 rfl rfl)
theorem dX4_readBegin_5 : decode cX4_readBegin 5 = .ok (.getfield 398, 3) := dk_180 1 142 (dk_at dksX4_readBegin_0 5 rfl rfl)
theorem dX4_readBegin_8 : decode cX4_readBegin 8 = .ok (.iaload, 1) := dk_46 (dk_at dksX4_readBegin_0 8 rfl rfl)
theorem dX4_readBegin_9 : decode cX4_readBegin 9 = .ok (.iconst 2, 1) := dk_5 (dk_at dksX4_readBegin_0 9 rfl rfl)
theorem dX4_readBegin_10 : decode cX4_readBegin 10 = .ok (.if_icmp .lt 7, 3) := dk_161 0 7 (dk_at dksX4_readBegin_0 10 rfl rfl)
theorem dX4_readBegin_13 : decode cX4_readBegin 13 = .ok (.iconst 1, 1) := dk_4 (dk_at dksX4_readBegin_0 13 rfl rfl)
theorem dX4_readBegin_14 : decode cX4_readBegin 14 = .ok (.goto 4, 3) := dk_167 0 4 (dk_at dksX4_readBegin_0 14 rfl rfl)
theorem dX4_readBegin_17 : decode cX4_readBegin 17 = .ok (.iconst 0, 1) := dk_3 (dk_at dksX4_readBegin_0 17 rfl rfl)
theorem dX4_readBegin_18 : decode cX4_readBegin 18 = .ok (.istore_n 2, 1) := dk_61 (dk_at dksX4_readBegin_0 18 rfl rfl)
theorem dX4_readBegin_19 : decode cX4_readBegin 19 = .ok (.iload_n 2, 1) := dk_28 (dk_at dksX4_readBegin_0 19 rfl rfl)
theorem dX4_readBegin_20 : decode cX4_readBegin 20 = .ok (.ifCond .eq 40, 3) := dk_153 0 40 (dk_at dksX4_readBegin_0 20 rfl rfl)
theorem dX4_readBegin_23 : decode cX4_readBegin 23 = .ok (.aload_n 0, 1) := dk_42 (dk_at dksX4_readBegin_0 23 rfl rfl)
theorem dX4_readBegin_24 : decode cX4_readBegin 24 = .ok (.getfield 125, 3) := dk_180 0 125 (dk_at dksX4_readBegin_1 0 rfl rfl)
theorem dX4_readBegin_27 : decode cX4_readBegin 27 = .ok (.iconst 2, 1) := dk_5 (dk_at dksX4_readBegin_1 3 rfl rfl)
theorem dX4_readBegin_28 : decode cX4_readBegin 28 = .ok (.aload_n 0, 1) := dk_42 (dk_at dksX4_readBegin_1 4 rfl rfl)
theorem dX4_readBegin_29 : decode cX4_readBegin 29 = .ok (.getfield 398, 3) := dk_180 1 142 (dk_at dksX4_readBegin_1 5 rfl rfl)
theorem dX4_readBegin_32 : decode cX4_readBegin 32 = .ok (.imul, 1) := dk_104 (dk_at dksX4_readBegin_1 8 rfl rfl)
theorem dX4_readBegin_33 : decode cX4_readBegin 33 = .ok (.aload_n 0, 1) := dk_42 (dk_at dksX4_readBegin_1 9 rfl rfl)
theorem dX4_readBegin_34 : decode cX4_readBegin 34 = .ok (.getfield 113, 3) := dk_180 0 113 (dk_at dksX4_readBegin_1 10 rfl rfl)
theorem dX4_readBegin_37 : decode cX4_readBegin 37 = .ok (.aload_n 0, 1) := dk_42 (dk_at dksX4_readBegin_1 13 rfl rfl)
theorem dX4_readBegin_38 : decode cX4_readBegin 38 = .ok (.getfield 398, 3) := dk_180 1 142 (dk_at dksX4_readBegin_1 14 rfl rfl)
theorem dX4_readBegin_41 : decode cX4_readBegin 41 = .ok (.iaload, 1) := dk_46 (dk_at dksX4_readBegin_1 17 rfl rfl)
theorem dX4_readBegin_42 : decode cX4_readBegin 42 = .ok (.iconst 2, 1) := dk_5 (dk_at dksX4_readBegin_1 18 rfl rfl)
theorem dX4_readBegin_43 : decode cX4_readBegin 43 = .ok (.if_icmp .ne 7, 3) := dk_160 0 7 (dk_at dksX4_readBegin_1 19 rfl rfl)
theorem dX4_readBegin_46 : decode cX4_readBegin 46 = .ok (.iconst 0, 1) := dk_3 (dk_at dksX4_readBegin_1 22 rfl rfl)
theorem dX4_readBegin_47 : decode cX4_readBegin 47 = .ok (.goto 4, 3) := dk_167 0 4 (dk_at dksX4_readBegin_2 0 rfl rfl)
theorem dX4_readBegin_50 : decode cX4_readBegin 50 = .ok (.iconst 1, 1) := dk_4 (dk_at dksX4_readBegin_2 3 rfl rfl)
theorem dX4_readBegin_51 : decode cX4_readBegin 51 = .ok (.iadd, 1) := dk_96 (dk_at dksX4_readBegin_2 4 rfl rfl)
theorem dX4_readBegin_52 : decode cX4_readBegin 52 = .ok (.iaload, 1) := dk_46 (dk_at dksX4_readBegin_2 5 rfl rfl)
theorem dX4_readBegin_53 : decode cX4_readBegin 53 = .ok (.ifCond .ne 7, 3) := dk_154 0 7 (dk_at dksX4_readBegin_2 6 rfl rfl)
theorem dX4_readBegin_56 : decode cX4_readBegin 56 = .ok (.iconst 1, 1) := dk_4 (dk_at dksX4_readBegin_2 9 rfl rfl)
theorem dX4_readBegin_57 : decode cX4_readBegin 57 = .ok (.goto 4, 3) := dk_167 0 4 (dk_at dksX4_readBegin_2 10 rfl rfl)
theorem dX4_readBegin_60 : decode cX4_readBegin 60 = .ok (.iconst 0, 1) := dk_3 (dk_at dksX4_readBegin_2 13 rfl rfl)
theorem dX4_readBegin_61 : decode cX4_readBegin 61 = .ok (.istore_n 3, 1) := dk_62 (dk_at dksX4_readBegin_2 14 rfl rfl)
theorem dX4_readBegin_62 : decode cX4_readBegin 62 = .ok (.iload_n 3, 1) := dk_29 (dk_at dksX4_readBegin_2 15 rfl rfl)
theorem dX4_readBegin_63 : decode cX4_readBegin 63 = .ok (.ifCond .eq 49, 3) := dk_153 0 49 (dk_at dksX4_readBegin_2 16 rfl rfl)
theorem dX4_readBegin_66 : decode cX4_readBegin 66 = .ok (.aload_n 0, 1) := dk_42 (dk_at dksX4_readBegin_2 19 rfl rfl)
theorem dX4_readBegin_67 : decode cX4_readBegin 67 = .ok (.getfield 113, 3) := dk_180 0 113 (dk_at dksX4_readBegin_2 20 rfl rfl)
theorem dX4_readBegin_70 : decode cX4_readBegin 70 = .ok (.aload_n 0, 1) := dk_42 (dk_at dksX4_readBegin_2 23 rfl rfl)
theorem dX4_readBegin_71 : decode cX4_readBegin 71 = .ok (.getfield 398, 3) := dk_180 1 142 (dk_at dksX4_readBegin_3 0 rfl rfl)
theorem dX4_readBegin_74 : decode cX4_readBegin 74 = .ok (.iaload, 1) := dk_46 (dk_at dksX4_readBegin_3 3 rfl rfl)
theorem dX4_readBegin_75 : decode cX4_readBegin 75 = .ok (.iconst 2, 1) := dk_5 (dk_at dksX4_readBegin_3 4 rfl rfl)
theorem dX4_readBegin_76 : decode cX4_readBegin 76 = .ok (.if_icmp .ne 36, 3) := dk_160 0 36 (dk_at dksX4_readBegin_3 5 rfl rfl)
theorem dX4_readBegin_79 : decode cX4_readBegin 79 = .ok (.iload_n 1, 1) := dk_27 (dk_at dksX4_readBegin_3 8 rfl rfl)
theorem dX4_readBegin_80 : decode cX4_readBegin 80 = .ok (.bipush 124, 2) := dk_16 124 (dk_at dksX4_readBegin_3 9 rfl rfl)
theorem dX4_readBegin_82 : decode cX4_readBegin 82 = .ok (.if_icmp .ne 30, 3) := dk_160 0 30 (dk_at dksX4_readBegin_3 11 rfl rfl)
theorem dX4_readBegin_85 : decode cX4_readBegin 85 = .ok (.aload_n 0, 1) := dk_42 (dk_at dksX4_readBegin_3 14 rfl rfl)
theorem dX4_readBegin_86 : decode cX4_readBegin 86 = .ok (.dup, 1) := dk_89 (dk_at dksX4_readBegin_3 15 rfl rfl)
theorem dX4_readBegin_87 : decode cX4_readBegin 87 = .ok (.getfield 364, 3) := dk_180 1 108 (dk_at dksX4_readBegin_3 16 rfl rfl)
theorem dX4_readBegin_90 : decode cX4_readBegin 90 = .ok (.iconst 1, 1) := dk_4 (dk_at dksX4_readBegin_3 19 rfl rfl)
theorem dX4_readBegin_91 : decode cX4_readBegin 91 = .ok (.iadd, 1) := dk_96 (dk_at dksX4_readBegin_3 20 rfl rfl)
theorem dX4_readBegin_92 : decode cX4_readBegin 92 = .ok (.putfield 364, 3) := dk_181 1 108 (dk_at dksX4_readBegin_3 21 rfl rfl)
theorem dX4_readBegin_95 : decode cX4_readBegin 95 = .ok (.aload_n 0, 1) := dk_42 (dk_at dksX4_readBegin_4 0 rfl rfl)
theorem dX4_readBegin_96 : decode cX4_readBegin 96 = .ok (.getfield 113, 3) := dk_180 0 113 (dk_at dksX4_readBegin_4 1 rfl rfl)
theorem dX4_readBegin_99 : decode cX4_readBegin 99 = .ok (.aload_n 0, 1) := dk_42 (dk_at dksX4_readBegin_4 4 rfl rfl)
theorem dX4_readBegin_100 : decode cX4_readBegin 100 = .ok (.getfield 398, 3) := dk_180 1 142 (dk_at dksX4_readBegin_4 5 rfl rfl)
theorem dX4_readBegin_103 : decode cX4_readBegin 103 = .ok (.iconst 3, 1) := dk_6 (dk_at dksX4_readBegin_4 8 rfl rfl)
theorem dX4_readBegin_104 : decode cX4_readBegin 104 = .ok (.iastore, 1) := dk_79 (dk_at dksX4_readBegin_4 9 rfl rfl)
theorem dX4_readBegin_105 : decode cX4_readBegin 105 = .ok (.aload_n 0, 1) := dk_42 (dk_at dksX4_readBegin_4 10 rfl rfl)
theorem dX4_readBegin_106 : decode cX4_readBegin 106 = .ok (.invokevirtual 401, 3) := dk_182 1 145 (dk_at dksX4_readBegin_4 11 rfl rfl)
theorem dX4_readBegin_109 : decode cX4_readBegin 109 = .ok (.goto 72, 3) := dk_167 0 72 (dk_at dksX4_readBegin_4 14 rfl rfl)
theorem dX4_readBegin_112 : decode cX4_readBegin 112 = .ok (.iload_n 3, 1) := dk_29 (dk_at dksX4_readBegin_4 17 rfl rfl)
theorem dX4_readBegin_113 : decode cX4_readBegin 113 = .ok (.ifCond .eq 29, 3) := dk_153 0 29 (dk_at dksX4_readBegin_4 18 rfl rfl)
theorem dX4_readBegin_116 : decode cX4_readBegin 116 = .ok (.aload_n 0, 1) := dk_42 (dk_at dksX4_readBegin_4 21 rfl rfl)
theorem dX4_readBegin_117 : decode cX4_readBegin 117 = .ok (.getfield 113, 3) := dk_180 0 113 (dk_at dksX4_readBegin_5 0 rfl rfl)
theorem dX4_readBegin_120 : decode cX4_readBegin 120 = .ok (.aload_n 0, 1) := dk_42 (dk_at dksX4_readBegin_5 3 rfl rfl)
theorem dX4_readBegin_121 : decode cX4_readBegin 121 = .ok (.getfield 398, 3) := dk_180 1 142 (dk_at dksX4_readBegin_5 4 rfl rfl)
theorem dX4_readBegin_124 : decode cX4_readBegin 124 = .ok (.iaload, 1) := dk_46 (dk_at dksX4_readBegin_5 7 rfl rfl)
theorem dX4_readBegin_125 : decode cX4_readBegin 125 = .ok (.iconst 3, 1) := dk_6 (dk_at dksX4_readBegin_5 8 rfl rfl)
theorem dX4_readBegin_126 : decode cX4_readBegin 126 = .ok (.if_icmp .ne 16, 3) := dk_160 0 16 (dk_at dksX4_readBegin_5 9 rfl rfl)
theorem dX4_readBegin_129 : decode cX4_readBegin 129 = .ok (.iload_n 1, 1) := dk_27 (dk_at dksX4_readBegin_5 12 rfl rfl)
theorem dX4_readBegin_130 : decode cX4_readBegin 130 = .ok (.bipush 125, 2) := dk_16 125 (dk_at dksX4_readBegin_5 13 rfl rfl)
theorem dX4_readBegin_132 : decode cX4_readBegin 132 = .ok (.if_icmp .ne 10, 3) := dk_160 0 10 (dk_at dksX4_readBegin_5 15 rfl rfl)
theorem dX4_readBegin_135 : decode cX4_readBegin 135 = .ok (.aload_n 0, 1) := dk_42 (dk_at dksX4_readBegin_5 18 rfl rfl)
theorem dX4_readBegin_136 : decode cX4_readBegin 136 = .ok (.invokevirtual 413, 3) := dk_182 1 157 (dk_at dksX4_readBegin_5 19 rfl rfl)
theorem dX4_readBegin_139 : decode cX4_readBegin 139 = .ok (.goto 42, 3) := dk_167 0 42 (dk_at dksX4_readBegin_6 0 rfl rfl)
theorem dX4_readBegin_142 : decode cX4_readBegin 142 = .ok (.iload_n 1, 1) := dk_27 (dk_at dksX4_readBegin_6 3 rfl rfl)
theorem dX4_readBegin_143 : decode cX4_readBegin 143 = .ok (.bipush 45, 2) := dk_16 45 (dk_at dksX4_readBegin_6 4 rfl rfl)
theorem dX4_readBegin_145 : decode cX4_readBegin 145 = .ok (.if_icmp .ne 31, 3) := dk_160 0 31 (dk_at dksX4_readBegin_6 6 rfl rfl)
theorem dX4_readBegin_148 : decode cX4_readBegin 148 = .ok (.aload_n 0, 1) := dk_42 (dk_at dksX4_readBegin_6 9 rfl rfl)
theorem dX4_readBegin_149 : decode cX4_readBegin 149 = .ok (.dup, 1) := dk_89 (dk_at dksX4_readBegin_6 10 rfl rfl)
theorem dX4_readBegin_150 : decode cX4_readBegin 150 = .ok (.getfield 364, 3) := dk_180 1 108 (dk_at dksX4_readBegin_6 11 rfl rfl)
theorem dX4_readBegin_153 : decode cX4_readBegin 153 = .ok (.iconst 1, 1) := dk_4 (dk_at dksX4_readBegin_6 14 rfl rfl)
theorem dX4_readBegin_154 : decode cX4_readBegin 154 = .ok (.iadd, 1) := dk_96 (dk_at dksX4_readBegin_6 15 rfl rfl)
theorem dX4_readBegin_155 : decode cX4_readBegin 155 = .ok (.putfield 364, 3) := dk_181 1 108 (dk_at dksX4_readBegin_6 16 rfl rfl)
theorem dX4_readBegin_158 : decode cX4_readBegin 158 = .ok (.aload_n 0, 1) := dk_42 (dk_at dksX4_readBegin_6 19 rfl rfl)
theorem dX4_readBegin_159 : decode cX4_readBegin 159 = .ok (.getfield 116, 3) := dk_180 0 116 (dk_at dksX4_readBegin_6 20 rfl rfl)
theorem dX4_readBegin_162 : decode cX4_readBegin 162 = .ok (.aload_n 0, 1) := dk_42 (dk_at dksX4_readBegin_6 23 rfl rfl)
theorem dX4_readBegin_163 : decode cX4_readBegin 163 = .ok (.getfield 398, 3) := dk_180 1 142 (dk_at dksX4_readBegin_7 0 rfl rfl)
theorem dX4_readBegin_166 : decode cX4_readBegin 166 = .ok (.iconst 1, 1) := dk_4 (dk_at dksX4_readBegin_7 3 rfl rfl)
theorem dX4_readBegin_167 : decode cX4_readBegin 167 = .ok (.bastore, 1) := dk_84 (dk_at dksX4_readBegin_7 4 rfl rfl)
theorem dX4_readBegin_168 : decode cX4_readBegin 168 = .ok (.aload_n 0, 1) := dk_42 (dk_at dksX4_readBegin_7 5 rfl rfl)
theorem dX4_readBegin_169 : decode cX4_readBegin 169 = .ok (.iconst 1, 1) := dk_4 (dk_at dksX4_readBegin_7 6 rfl rfl)
theorem dX4_readBegin_170 : decode cX4_readBegin 170 = .ok (.putfield 404, 3) := dk_181 1 148 (dk_at dksX4_readBegin_7 7 rfl rfl)
theorem dX4_readBegin_173 : decode cX4_readBegin 173 = .ok (.goto 8, 3) := dk_167 0 8 (dk_at dksX4_readBegin_7 10 rfl rfl)
theorem dX4_readBegin_176 : decode cX4_readBegin 176 = .ok (.aload_n 0, 1) := dk_42 (dk_at dksX4_readBegin_7 13 rfl rfl)
theorem dX4_readBegin_177 : decode cX4_readBegin 177 = .ok (.iload_n 1, 1) := dk_27 (dk_at dksX4_readBegin_7 14 rfl rfl)
theorem dX4_readBegin_178 : decode cX4_readBegin 178 = .ok (.invokevirtual 416, 3) := dk_182 1 160 (dk_at dksX4_readBegin_7 15 rfl rfl)
theorem dX4_readBegin_181 : decode cX4_readBegin 181 = .ok (.return_, 1) := dk_177 (dk_at dksX4_readBegin_7 18 rfl rfl)
abbrev cX4_readTerm : ByteArray := prog_18_method_92_code
def yX4_readTerm : MethodName := ⟨RX4, "readTerm", "(I)V"⟩
def dkwX4_readTerm_3 : List UInt8 := [27, 182, 1, 168, 167, 0, 8, 42, 4, 181, 1, 126, 42, 180, 1, 126, 154, 0, 7, 42, 182, 1, 154, 177]
abbrev dktX4_readTerm_3 : List UInt8 := dkwX4_readTerm_3 ++ []
def dkwX4_readTerm_2 : List UInt8 := [16, 42, 159, 0, 21, 27, 16, 94, 159, 0, 15, 27, 16, 118, 159, 0, 9, 27, 16, 35, 160, 0, 11, 42]
abbrev dktX4_readTerm_2 : List UInt8 := dkwX4_readTerm_2 ++ dktX4_readTerm_3
def dkwX4_readTerm_1 : List UInt8 := [182, 1, 163, 177, 27, 16, 48, 16, 57, 184, 0, 153, 153, 0, 10, 42, 182, 1, 165, 167, 0, 40, 27]
abbrev dktX4_readTerm_1 : List UInt8 := dkwX4_readTerm_1 ++ dktX4_readTerm_2
def dkwX4_readTerm_0 : List UInt8 := [27, 16, 40, 159, 0, 9, 27, 16, 123, 160, 0, 19, 42, 27, 16, 40, 160, 0, 7, 4, 167, 0, 4, 5]
abbrev dktX4_readTerm_0 : List UInt8 := dkwX4_readTerm_0 ++ dktX4_readTerm_1
theorem dksX4_readTerm_0 : cX4_readTerm.data.toList.drop 0 = dktX4_readTerm_0 := by decide +kernel
theorem dksX4_readTerm_1 : cX4_readTerm.data.toList.drop 24 = dktX4_readTerm_1 := dk_seg dksX4_readTerm_0 24 rfl rfl
theorem dksX4_readTerm_2 : cX4_readTerm.data.toList.drop 47 = dktX4_readTerm_2 := dk_seg dksX4_readTerm_1 23 rfl rfl
theorem dksX4_readTerm_3 : cX4_readTerm.data.toList.drop 71 = dktX4_readTerm_3 := dk_seg dksX4_readTerm_2 24 rfl rfl
theorem dX4_readTerm_0 : decode cX4_readTerm 0 = .ok (.iload_n 1, 1) := dk_27 (dk_at dksX4_readTerm_0 0 rfl rfl)
theorem dX4_readTerm_1 : decode cX4_readTerm 1 = .ok (.bipush 40, 2) := dk_16 40 (dk_at dksX4_readTerm_0 1 rfl rfl)
theorem dX4_readTerm_3 : decode cX4_readTerm 3 = .ok (.if_icmp .eq 9, 3) := dk_159 0 9 (dk_at dksX4_readTerm_0 3 rfl rfl)
theorem dX4_readTerm_6 : decode cX4_readTerm 6 = .ok (.iload_n 1, 1) := dk_27 (dk_at dksX4_readTerm_0 6 rfl rfl)
theorem dX4_readTerm_7 : decode cX4_readTerm 7 = .ok (.bipush 123, 2) := dk_16 123 (dk_at dksX4_readTerm_0 7 rfl rfl)
theorem dX4_readTerm_9 : decode cX4_readTerm 9 = .ok (.if_icmp .ne 19, 3) := dk_160 0 19 (dk_at dksX4_readTerm_0 9 rfl rfl)
theorem dX4_readTerm_12 : decode cX4_readTerm 12 = .ok (.aload_n 0, 1) := dk_42 (dk_at dksX4_readTerm_0 12 rfl rfl)
theorem dX4_readTerm_13 : decode cX4_readTerm 13 = .ok (.iload_n 1, 1) := dk_27 (dk_at dksX4_readTerm_0 13 rfl rfl)
theorem dX4_readTerm_14 : decode cX4_readTerm 14 = .ok (.bipush 40, 2) := dk_16 40 (dk_at dksX4_readTerm_0 14 rfl rfl)
theorem dX4_readTerm_16 : decode cX4_readTerm 16 = .ok (.if_icmp .ne 7, 3) := dk_160 0 7 (dk_at dksX4_readTerm_0 16 rfl rfl)
theorem dX4_readTerm_19 : decode cX4_readTerm 19 = .ok (.iconst 1, 1) := dk_4 (dk_at dksX4_readTerm_0 19 rfl rfl)
theorem dX4_readTerm_20 : decode cX4_readTerm 20 = .ok (.goto 4, 3) := dk_167 0 4 (dk_at dksX4_readTerm_0 20 rfl rfl)
theorem dX4_readTerm_23 : decode cX4_readTerm 23 = .ok (.iconst 2, 1) := dk_5 (dk_at dksX4_readTerm_0 23 rfl rfl)
theorem dX4_readTerm_24 : decode cX4_readTerm 24 = .ok (.invokevirtual 419, 3) := dk_182 1 163 (dk_at dksX4_readTerm_1 0 rfl rfl)
theorem dX4_readTerm_27 : decode cX4_readTerm 27 = .ok (.return_, 1) := dk_177 (dk_at dksX4_readTerm_1 3 rfl rfl)
theorem dX4_readTerm_28 : decode cX4_readTerm 28 = .ok (.iload_n 1, 1) := dk_27 (dk_at dksX4_readTerm_1 4 rfl rfl)
theorem dX4_readTerm_29 : decode cX4_readTerm 29 = .ok (.bipush 48, 2) := dk_16 48 (dk_at dksX4_readTerm_1 5 rfl rfl)
theorem dX4_readTerm_31 : decode cX4_readTerm 31 = .ok (.bipush 57, 2) := dk_16 57 (dk_at dksX4_readTerm_1 7 rfl rfl)
theorem dX4_readTerm_33 : decode cX4_readTerm 33 = .ok (.invokestatic 153, 3) := dk_184 0 153 (dk_at dksX4_readTerm_1 9 rfl rfl)
theorem dX4_readTerm_36 : decode cX4_readTerm 36 = .ok (.ifCond .eq 10, 3) := dk_153 0 10 (dk_at dksX4_readTerm_1 12 rfl rfl)
theorem dX4_readTerm_39 : decode cX4_readTerm 39 = .ok (.aload_n 0, 1) := dk_42 (dk_at dksX4_readTerm_1 15 rfl rfl)
theorem dX4_readTerm_40 : decode cX4_readTerm 40 = .ok (.invokevirtual 421, 3) := dk_182 1 165 (dk_at dksX4_readTerm_1 16 rfl rfl)
theorem dX4_readTerm_43 : decode cX4_readTerm 43 = .ok (.goto 40, 3) := dk_167 0 40 (dk_at dksX4_readTerm_1 19 rfl rfl)
theorem dX4_readTerm_46 : decode cX4_readTerm 46 = .ok (.iload_n 1, 1) := dk_27 (dk_at dksX4_readTerm_1 22 rfl rfl)
theorem dX4_readTerm_47 : decode cX4_readTerm 47 = .ok (.bipush 42, 2) := dk_16 42 (dk_at dksX4_readTerm_2 0 rfl rfl)
theorem dX4_readTerm_49 : decode cX4_readTerm 49 = .ok (.if_icmp .eq 21, 3) := dk_159 0 21 (dk_at dksX4_readTerm_2 2 rfl rfl)
theorem dX4_readTerm_52 : decode cX4_readTerm 52 = .ok (.iload_n 1, 1) := dk_27 (dk_at dksX4_readTerm_2 5 rfl rfl)
theorem dX4_readTerm_53 : decode cX4_readTerm 53 = .ok (.bipush 94, 2) := dk_16 94 (dk_at dksX4_readTerm_2 6 rfl rfl)
theorem dX4_readTerm_55 : decode cX4_readTerm 55 = .ok (.if_icmp .eq 15, 3) := dk_159 0 15 (dk_at dksX4_readTerm_2 8 rfl rfl)
theorem dX4_readTerm_58 : decode cX4_readTerm 58 = .ok (.iload_n 1, 1) := dk_27 (dk_at dksX4_readTerm_2 11 rfl rfl)
theorem dX4_readTerm_59 : decode cX4_readTerm 59 = .ok (.bipush 118, 2) := dk_16 118 (dk_at dksX4_readTerm_2 12 rfl rfl)
theorem dX4_readTerm_61 : decode cX4_readTerm 61 = .ok (.if_icmp .eq 9, 3) := dk_159 0 9 (dk_at dksX4_readTerm_2 14 rfl rfl)
theorem dX4_readTerm_64 : decode cX4_readTerm 64 = .ok (.iload_n 1, 1) := dk_27 (dk_at dksX4_readTerm_2 17 rfl rfl)
theorem dX4_readTerm_65 : decode cX4_readTerm 65 = .ok (.bipush 35, 2) := dk_16 35 (dk_at dksX4_readTerm_2 18 rfl rfl)
theorem dX4_readTerm_67 : decode cX4_readTerm 67 = .ok (.if_icmp .ne 11, 3) := dk_160 0 11 (dk_at dksX4_readTerm_2 20 rfl rfl)
theorem dX4_readTerm_70 : decode cX4_readTerm 70 = .ok (.aload_n 0, 1) := dk_42 (dk_at dksX4_readTerm_2 23 rfl rfl)
theorem dX4_readTerm_71 : decode cX4_readTerm 71 = .ok (.iload_n 1, 1) := dk_27 (dk_at dksX4_readTerm_3 0 rfl rfl)
theorem dX4_readTerm_72 : decode cX4_readTerm 72 = .ok (.invokevirtual 424, 3) := dk_182 1 168 (dk_at dksX4_readTerm_3 1 rfl rfl)
theorem dX4_readTerm_75 : decode cX4_readTerm 75 = .ok (.goto 8, 3) := dk_167 0 8 (dk_at dksX4_readTerm_3 4 rfl rfl)
theorem dX4_readTerm_78 : decode cX4_readTerm 78 = .ok (.aload_n 0, 1) := dk_42 (dk_at dksX4_readTerm_3 7 rfl rfl)
theorem dX4_readTerm_79 : decode cX4_readTerm 79 = .ok (.iconst 1, 1) := dk_4 (dk_at dksX4_readTerm_3 8 rfl rfl)
theorem dX4_readTerm_80 : decode cX4_readTerm 80 = .ok (.putfield 382, 3) := dk_181 1 126 (dk_at dksX4_readTerm_3 9 rfl rfl)
theorem dX4_readTerm_83 : decode cX4_readTerm 83 = .ok (.aload_n 0, 1) := dk_42 (dk_at dksX4_readTerm_3 12 rfl rfl)
theorem dX4_readTerm_84 : decode cX4_readTerm 84 = .ok (.getfield 382, 3) := dk_180 1 126 (dk_at dksX4_readTerm_3 13 rfl rfl)
theorem dX4_readTerm_87 : decode cX4_readTerm 87 = .ok (.ifCond .ne 7, 3) := dk_154 0 7 (dk_at dksX4_readTerm_3 16 rfl rfl)
theorem dX4_readTerm_90 : decode cX4_readTerm 90 = .ok (.aload_n 0, 1) := dk_42 (dk_at dksX4_readTerm_3 19 rfl rfl)
theorem dX4_readTerm_91 : decode cX4_readTerm 91 = .ok (.invokevirtual 410, 3) := dk_182 1 154 (dk_at dksX4_readTerm_3 20 rfl rfl)
theorem dX4_readTerm_94 : decode cX4_readTerm 94 = .ok (.return_, 1) := dk_177 (dk_at dksX4_readTerm_3 23 rfl rfl)
abbrev cX4_open : ByteArray := prog_18_method_85_code
def yX4_open : MethodName := ⟨RX4, "open", "(I)V"⟩
def dkwX4_open_3 : List UInt8 := [79, 42, 182, 1, 145, 177]
abbrev dktX4_open_3 : List UInt8 := dkwX4_open_3 ++ []
def dkwX4_open_2 : List UInt8 := [180, 0, 125, 5, 42, 180, 1, 142, 104, 3, 79, 42, 180, 0, 125, 5, 42, 180, 1, 142, 104, 4, 96, 3]
abbrev dktX4_open_2 : List UInt8 := dkwX4_open_2 ++ dktX4_open_3
def dkwX4_open_1 : List UInt8 := [181, 1, 108, 42, 89, 180, 1, 142, 4, 96, 181, 1, 142, 42, 180, 0, 113, 42, 180, 1, 142, 27, 79, 42]
abbrev dktX4_open_1 : List UInt8 := dkwX4_open_1 ++ dktX4_open_2
def dkwX4_open_0 : List UInt8 := [42, 180, 1, 142, 16, 6, 160, 0, 9, 42, 4, 181, 1, 126, 177, 42, 89, 180, 1, 108, 4, 96]
abbrev dktX4_open_0 : List UInt8 := dkwX4_open_0 ++ dktX4_open_1
theorem dksX4_open_0 : cX4_open.data.toList.drop 0 = dktX4_open_0 := by decide +kernel
theorem dksX4_open_1 : cX4_open.data.toList.drop 22 = dktX4_open_1 := dk_seg dksX4_open_0 22 rfl rfl
theorem dksX4_open_2 : cX4_open.data.toList.drop 46 = dktX4_open_2 := dk_seg dksX4_open_1 24 rfl rfl
theorem dksX4_open_3 : cX4_open.data.toList.drop 70 = dktX4_open_3 := dk_seg dksX4_open_2 24 rfl rfl
theorem dX4_open_0 : decode cX4_open 0 = .ok (.aload_n 0, 1) := dk_42 (dk_at dksX4_open_0 0 rfl rfl)
theorem dX4_open_1 : decode cX4_open 1 = .ok (.getfield 398, 3) := dk_180 1 142 (dk_at dksX4_open_0 1 rfl rfl)
theorem dX4_open_4 : decode cX4_open 4 = .ok (.bipush 6, 2) := dk_16 6 (dk_at dksX4_open_0 4 rfl rfl)
theorem dX4_open_6 : decode cX4_open 6 = .ok (.if_icmp .ne 9, 3) := dk_160 0 9 (dk_at dksX4_open_0 6 rfl rfl)
theorem dX4_open_9 : decode cX4_open 9 = .ok (.aload_n 0, 1) := dk_42 (dk_at dksX4_open_0 9 rfl rfl)
theorem dX4_open_10 : decode cX4_open 10 = .ok (.iconst 1, 1) := dk_4 (dk_at dksX4_open_0 10 rfl rfl)
theorem dX4_open_11 : decode cX4_open 11 = .ok (.putfield 382, 3) := dk_181 1 126 (dk_at dksX4_open_0 11 rfl rfl)
theorem dX4_open_14 : decode cX4_open 14 = .ok (.return_, 1) := dk_177 (dk_at dksX4_open_0 14 rfl rfl)
theorem dX4_open_15 : decode cX4_open 15 = .ok (.aload_n 0, 1) := dk_42 (dk_at dksX4_open_0 15 rfl rfl)
theorem dX4_open_16 : decode cX4_open 16 = .ok (.dup, 1) := dk_89 (dk_at dksX4_open_0 16 rfl rfl)
theorem dX4_open_17 : decode cX4_open 17 = .ok (.getfield 364, 3) := dk_180 1 108 (dk_at dksX4_open_0 17 rfl rfl)
theorem dX4_open_20 : decode cX4_open 20 = .ok (.iconst 1, 1) := dk_4 (dk_at dksX4_open_0 20 rfl rfl)
theorem dX4_open_21 : decode cX4_open 21 = .ok (.iadd, 1) := dk_96 (dk_at dksX4_open_0 21 rfl rfl)
theorem dX4_open_22 : decode cX4_open 22 = .ok (.putfield 364, 3) := dk_181 1 108 (dk_at dksX4_open_1 0 rfl rfl)
theorem dX4_open_25 : decode cX4_open 25 = .ok (.aload_n 0, 1) := dk_42 (dk_at dksX4_open_1 3 rfl rfl)
theorem dX4_open_26 : decode cX4_open 26 = .ok (.dup, 1) := dk_89 (dk_at dksX4_open_1 4 rfl rfl)
theorem dX4_open_27 : decode cX4_open 27 = .ok (.getfield 398, 3) := dk_180 1 142 (dk_at dksX4_open_1 5 rfl rfl)
theorem dX4_open_30 : decode cX4_open 30 = .ok (.iconst 1, 1) := dk_4 (dk_at dksX4_open_1 8 rfl rfl)
theorem dX4_open_31 : decode cX4_open 31 = .ok (.iadd, 1) := dk_96 (dk_at dksX4_open_1 9 rfl rfl)
theorem dX4_open_32 : decode cX4_open 32 = .ok (.putfield 398, 3) := dk_181 1 142 (dk_at dksX4_open_1 10 rfl rfl)
theorem dX4_open_35 : decode cX4_open 35 = .ok (.aload_n 0, 1) := dk_42 (dk_at dksX4_open_1 13 rfl rfl)
theorem dX4_open_36 : decode cX4_open 36 = .ok (.getfield 113, 3) := dk_180 0 113 (dk_at dksX4_open_1 14 rfl rfl)
theorem dX4_open_39 : decode cX4_open 39 = .ok (.aload_n 0, 1) := dk_42 (dk_at dksX4_open_1 17 rfl rfl)
theorem dX4_open_40 : decode cX4_open 40 = .ok (.getfield 398, 3) := dk_180 1 142 (dk_at dksX4_open_1 18 rfl rfl)
theorem dX4_open_43 : decode cX4_open 43 = .ok (.iload_n 1, 1) := dk_27 (dk_at dksX4_open_1 21 rfl rfl)
theorem dX4_open_44 : decode cX4_open 44 = .ok (.iastore, 1) := dk_79 (dk_at dksX4_open_1 22 rfl rfl)
theorem dX4_open_45 : decode cX4_open 45 = .ok (.aload_n 0, 1) := dk_42 (dk_at dksX4_open_1 23 rfl rfl)
theorem dX4_open_46 : decode cX4_open 46 = .ok (.getfield 125, 3) := dk_180 0 125 (dk_at dksX4_open_2 0 rfl rfl)
theorem dX4_open_49 : decode cX4_open 49 = .ok (.iconst 2, 1) := dk_5 (dk_at dksX4_open_2 3 rfl rfl)
theorem dX4_open_50 : decode cX4_open 50 = .ok (.aload_n 0, 1) := dk_42 (dk_at dksX4_open_2 4 rfl rfl)
theorem dX4_open_51 : decode cX4_open 51 = .ok (.getfield 398, 3) := dk_180 1 142 (dk_at dksX4_open_2 5 rfl rfl)
theorem dX4_open_54 : decode cX4_open 54 = .ok (.imul, 1) := dk_104 (dk_at dksX4_open_2 8 rfl rfl)
theorem dX4_open_55 : decode cX4_open 55 = .ok (.iconst 0, 1) := dk_3 (dk_at dksX4_open_2 9 rfl rfl)
theorem dX4_open_56 : decode cX4_open 56 = .ok (.iastore, 1) := dk_79 (dk_at dksX4_open_2 10 rfl rfl)
theorem dX4_open_57 : decode cX4_open 57 = .ok (.aload_n 0, 1) := dk_42 (dk_at dksX4_open_2 11 rfl rfl)
theorem dX4_open_58 : decode cX4_open 58 = .ok (.getfield 125, 3) := dk_180 0 125 (dk_at dksX4_open_2 12 rfl rfl)
theorem dX4_open_61 : decode cX4_open 61 = .ok (.iconst 2, 1) := dk_5 (dk_at dksX4_open_2 15 rfl rfl)
theorem dX4_open_62 : decode cX4_open 62 = .ok (.aload_n 0, 1) := dk_42 (dk_at dksX4_open_2 16 rfl rfl)
theorem dX4_open_63 : decode cX4_open 63 = .ok (.getfield 398, 3) := dk_180 1 142 (dk_at dksX4_open_2 17 rfl rfl)
theorem dX4_open_66 : decode cX4_open 66 = .ok (.imul, 1) := dk_104 (dk_at dksX4_open_2 20 rfl rfl)
theorem dX4_open_67 : decode cX4_open 67 = .ok (.iconst 1, 1) := dk_4 (dk_at dksX4_open_2 21 rfl rfl)
theorem dX4_open_68 : decode cX4_open 68 = .ok (.iadd, 1) := dk_96 (dk_at dksX4_open_2 22 rfl rfl)
theorem dX4_open_69 : decode cX4_open 69 = .ok (.iconst 0, 1) := dk_3 (dk_at dksX4_open_2 23 rfl rfl)
theorem dX4_open_70 : decode cX4_open 70 = .ok (.iastore, 1) := dk_79 (dk_at dksX4_open_3 0 rfl rfl)
theorem dX4_open_71 : decode cX4_open 71 = .ok (.aload_n 0, 1) := dk_42 (dk_at dksX4_open_3 1 rfl rfl)
theorem dX4_open_72 : decode cX4_open 72 = .ok (.invokevirtual 401, 3) := dk_182 1 145 (dk_at dksX4_open_3 2 rfl rfl)
theorem dX4_open_75 : decode cX4_open 75 = .ok (.return_, 1) := dk_177 (dk_at dksX4_open_3 5 rfl rfl)
abbrev cX4_readNumber : ByteArray := prog_18_method_81_code
def yX4_readNumber : MethodName := ⟨RX4, "readNumber", "()V"⟩
def dkwX4_readNumber_7 : List UInt8 := [180, 0, 131, 3, 184, 0, 231, 177]
abbrev dktX4_readNumber_7 : List UInt8 := dkwX4_readNumber_7 ++ []
def dkwX4_readNumber_6 : List UInt8 := [28, 100, 121, 182, 1, 38, 154, 0, 7, 4, 167, 0, 4, 3, 181, 1, 133, 42, 180, 0, 82, 3, 42]
abbrev dktX4_readNumber_6 : List UInt8 := dkwX4_readNumber_6 ++ dktX4_readNumber_7
def dkwX4_readNumber_5 : List UInt8 := [184, 0, 242, 61, 42, 180, 1, 130, 153, 0, 46, 42, 180, 1, 133, 154, 0, 39, 42, 42, 27, 133, 16, 40]
abbrev dktX4_readNumber_5 : List UInt8 := dkwX4_readNumber_5 ++ dktX4_readNumber_6
def dkwX4_readNumber_4 : List UInt8 := [3, 54, 4, 21, 4, 154, 0, 14, 42, 29, 181, 1, 108, 42, 4, 181, 1, 126, 177, 42, 180, 1, 117]
abbrev dktX4_readNumber_4 : List UInt8 := dkwX4_readNumber_4 ++ dktX4_readNumber_5
def dkwX4_readNumber_3 : List UInt8 := [184, 0, 153, 153, 0, 21, 42, 180, 1, 117, 42, 180, 1, 117, 4, 100, 126, 154, 0, 7, 4, 167, 0, 4]
abbrev dktX4_readNumber_3 : List UInt8 := dkwX4_readNumber_3 ++ dktX4_readNumber_4
def dkwX4_readNumber_2 : List UInt8 := [182, 1, 114, 42, 180, 1, 108, 62, 42, 6, 182, 1, 123, 153, 0, 35, 42, 180, 1, 117, 5, 17, 2, 0]
abbrev dktX4_readNumber_2 : List UInt8 := dkwX4_readNumber_2 ++ dktX4_readNumber_3
def dkwX4_readNumber_1 : List UInt8 := [182, 1, 114, 42, 182, 1, 111, 16, 47, 160, 0, 89, 42, 89, 180, 1, 108, 4, 96, 181, 1, 108, 42]
abbrev dktX4_readNumber_1 : List UInt8 := dkwX4_readNumber_1 ++ dktX4_readNumber_2
def dkwX4_readNumber_0 : List UInt8 := [42, 6, 182, 1, 123, 154, 0, 9, 42, 4, 181, 1, 126, 177, 42, 180, 1, 117, 60, 3, 61, 42]
abbrev dktX4_readNumber_0 : List UInt8 := dkwX4_readNumber_0 ++ dktX4_readNumber_1
theorem dksX4_readNumber_0 : cX4_readNumber.data.toList.drop 0 = dktX4_readNumber_0 := by decide +kernel
theorem dksX4_readNumber_1 : cX4_readNumber.data.toList.drop 22 = dktX4_readNumber_1 := dk_seg dksX4_readNumber_0 22 rfl rfl
theorem dksX4_readNumber_2 : cX4_readNumber.data.toList.drop 45 = dktX4_readNumber_2 := dk_seg dksX4_readNumber_1 23 rfl rfl
theorem dksX4_readNumber_3 : cX4_readNumber.data.toList.drop 69 = dktX4_readNumber_3 := dk_seg dksX4_readNumber_2 24 rfl rfl
theorem dksX4_readNumber_4 : cX4_readNumber.data.toList.drop 93 = dktX4_readNumber_4 := dk_seg dksX4_readNumber_3 24 rfl rfl
theorem dksX4_readNumber_5 : cX4_readNumber.data.toList.drop 116 = dktX4_readNumber_5 := dk_seg dksX4_readNumber_4 23 rfl rfl
theorem dksX4_readNumber_6 : cX4_readNumber.data.toList.drop 140 = dktX4_readNumber_6 := dk_seg dksX4_readNumber_5 24 rfl rfl
theorem dksX4_readNumber_7 : cX4_readNumber.data.toList.drop 163 = dktX4_readNumber_7 := dk_seg dksX4_readNumber_6 23 rfl rfl
theorem dX4_readNumber_0 : decode cX4_readNumber 0 = .ok (.aload_n 0, 1) := dk_42 (dk_at dksX4_readNumber_0 0 rfl rfl)
theorem dX4_readNumber_1 : decode cX4_readNumber 1 = .ok (.iconst 3, 1) := dk_6 (dk_at dksX4_readNumber_0 1 rfl rfl)
theorem dX4_readNumber_2 : decode cX4_readNumber 2 = .ok (.invokevirtual 379, 3) := dk_182 1 123 (dk_at dksX4_readNumber_0 2 rfl rfl)
theorem dX4_readNumber_5 : decode cX4_readNumber 5 = .ok (.ifCond .ne 9, 3) := dk_154 0 9 (dk_at dksX4_readNumber_0 5 rfl rfl)
theorem dX4_readNumber_8 : decode cX4_readNumber 8 = .ok (.aload_n 0, 1) := dk_42 (dk_at dksX4_readNumber_0 8 rfl rfl)
theorem dX4_readNumber_9 : decode cX4_readNumber 9 = .ok (.iconst 1, 1) := dk_4 (dk_at dksX4_readNumber_0 9 rfl rfl)
theorem dX4_readNumber_10 : decode cX4_readNumber 10 = .ok (.putfield 382, 3) := dk_181 1 126 (dk_at dksX4_readNumber_0 10 rfl rfl)
theorem dX4_readNumber_13 : decode cX4_readNumber 13 = .ok (.return_, 1) := dk_177 (dk_at dksX4_readNumber_0 13 rfl rfl)
theorem dX4_readNumber_14 : decode cX4_readNumber 14 = .ok (.aload_n 0, 1) := dk_42 (dk_at dksX4_readNumber_0 14 rfl rfl)
theorem dX4_readNumber_15 : decode cX4_readNumber 15 = .ok (.getfield 373, 3) := dk_180 1 117 (dk_at dksX4_readNumber_0 15 rfl rfl)
theorem dX4_readNumber_18 : decode cX4_readNumber 18 = .ok (.istore_n 1, 1) := dk_60 (dk_at dksX4_readNumber_0 18 rfl rfl)
theorem dX4_readNumber_19 : decode cX4_readNumber 19 = .ok (.iconst 0, 1) := dk_3 (dk_at dksX4_readNumber_0 19 rfl rfl)
theorem dX4_readNumber_20 : decode cX4_readNumber 20 = .ok (.istore_n 2, 1) := dk_61 (dk_at dksX4_readNumber_0 20 rfl rfl)
theorem dX4_readNumber_21 : decode cX4_readNumber 21 = .ok (.aload_n 0, 1) := dk_42 (dk_at dksX4_readNumber_0 21 rfl rfl)
theorem dX4_readNumber_22 : decode cX4_readNumber 22 = .ok (.invokevirtual 370, 3) := dk_182 1 114 (dk_at dksX4_readNumber_1 0 rfl rfl)
theorem dX4_readNumber_25 : decode cX4_readNumber 25 = .ok (.aload_n 0, 1) := dk_42 (dk_at dksX4_readNumber_1 3 rfl rfl)
theorem dX4_readNumber_26 : decode cX4_readNumber 26 = .ok (.invokevirtual 367, 3) := dk_182 1 111 (dk_at dksX4_readNumber_1 4 rfl rfl)
theorem dX4_readNumber_29 : decode cX4_readNumber 29 = .ok (.bipush 47, 2) := dk_16 47 (dk_at dksX4_readNumber_1 7 rfl rfl)
theorem dX4_readNumber_31 : decode cX4_readNumber 31 = .ok (.if_icmp .ne 89, 3) := dk_160 0 89 (dk_at dksX4_readNumber_1 9 rfl rfl)
theorem dX4_readNumber_34 : decode cX4_readNumber 34 = .ok (.aload_n 0, 1) := dk_42 (dk_at dksX4_readNumber_1 12 rfl rfl)
theorem dX4_readNumber_35 : decode cX4_readNumber 35 = .ok (.dup, 1) := dk_89 (dk_at dksX4_readNumber_1 13 rfl rfl)
theorem dX4_readNumber_36 : decode cX4_readNumber 36 = .ok (.getfield 364, 3) := dk_180 1 108 (dk_at dksX4_readNumber_1 14 rfl rfl)
theorem dX4_readNumber_39 : decode cX4_readNumber 39 = .ok (.iconst 1, 1) := dk_4 (dk_at dksX4_readNumber_1 17 rfl rfl)
theorem dX4_readNumber_40 : decode cX4_readNumber 40 = .ok (.iadd, 1) := dk_96 (dk_at dksX4_readNumber_1 18 rfl rfl)
theorem dX4_readNumber_41 : decode cX4_readNumber 41 = .ok (.putfield 364, 3) := dk_181 1 108 (dk_at dksX4_readNumber_1 19 rfl rfl)
theorem dX4_readNumber_44 : decode cX4_readNumber 44 = .ok (.aload_n 0, 1) := dk_42 (dk_at dksX4_readNumber_1 22 rfl rfl)
theorem dX4_readNumber_45 : decode cX4_readNumber 45 = .ok (.invokevirtual 370, 3) := dk_182 1 114 (dk_at dksX4_readNumber_2 0 rfl rfl)
theorem dX4_readNumber_48 : decode cX4_readNumber 48 = .ok (.aload_n 0, 1) := dk_42 (dk_at dksX4_readNumber_2 3 rfl rfl)
theorem dX4_readNumber_49 : decode cX4_readNumber 49 = .ok (.getfield 364, 3) := dk_180 1 108 (dk_at dksX4_readNumber_2 4 rfl rfl)
theorem dX4_readNumber_52 : decode cX4_readNumber 52 = .ok (.istore_n 3, 1) := dk_62 (dk_at dksX4_readNumber_2 7 rfl rfl)
theorem dX4_readNumber_53 : decode cX4_readNumber 53 = .ok (.aload_n 0, 1) := dk_42 (dk_at dksX4_readNumber_2 8 rfl rfl)
theorem dX4_readNumber_54 : decode cX4_readNumber 54 = .ok (.iconst 3, 1) := dk_6 (dk_at dksX4_readNumber_2 9 rfl rfl)
theorem dX4_readNumber_55 : decode cX4_readNumber 55 = .ok (.invokevirtual 379, 3) := dk_182 1 123 (dk_at dksX4_readNumber_2 10 rfl rfl)
theorem dX4_readNumber_58 : decode cX4_readNumber 58 = .ok (.ifCond .eq 35, 3) := dk_153 0 35 (dk_at dksX4_readNumber_2 13 rfl rfl)
theorem dX4_readNumber_61 : decode cX4_readNumber 61 = .ok (.aload_n 0, 1) := dk_42 (dk_at dksX4_readNumber_2 16 rfl rfl)
theorem dX4_readNumber_62 : decode cX4_readNumber 62 = .ok (.getfield 373, 3) := dk_180 1 117 (dk_at dksX4_readNumber_2 17 rfl rfl)
theorem dX4_readNumber_65 : decode cX4_readNumber 65 = .ok (.iconst 2, 1) := dk_5 (dk_at dksX4_readNumber_2 20 rfl rfl)
theorem dX4_readNumber_66 : decode cX4_readNumber 66 = .ok (.sipush 512, 3) := dk_17 2 0 (dk_at dksX4_readNumber_2 21 rfl rfl)
theorem dX4_readNumber_69 : decode cX4_readNumber 69 = .ok (.invokestatic 153, 3) := dk_184 0 153 (dk_at dksX4_readNumber_3 0 rfl rfl)
theorem dX4_readNumber_72 : decode cX4_readNumber 72 = .ok (.ifCond .eq 21, 3) := dk_153 0 21 (dk_at dksX4_readNumber_3 3 rfl rfl)
theorem dX4_readNumber_75 : decode cX4_readNumber 75 = .ok (.aload_n 0, 1) := dk_42 (dk_at dksX4_readNumber_3 6 rfl rfl)
theorem dX4_readNumber_76 : decode cX4_readNumber 76 = .ok (.getfield 373, 3) := dk_180 1 117 (dk_at dksX4_readNumber_3 7 rfl rfl)
theorem dX4_readNumber_79 : decode cX4_readNumber 79 = .ok (.aload_n 0, 1) := dk_42 (dk_at dksX4_readNumber_3 10 rfl rfl)
theorem dX4_readNumber_80 : decode cX4_readNumber 80 = .ok (.getfield 373, 3) := dk_180 1 117 (dk_at dksX4_readNumber_3 11 rfl rfl)
theorem dX4_readNumber_83 : decode cX4_readNumber 83 = .ok (.iconst 1, 1) := dk_4 (dk_at dksX4_readNumber_3 14 rfl rfl)
theorem dX4_readNumber_84 : decode cX4_readNumber 84 = .ok (.isub, 1) := dk_100 (dk_at dksX4_readNumber_3 15 rfl rfl)
theorem dX4_readNumber_85 : decode cX4_readNumber 85 = .ok (.iand, 1) := dk_126 (dk_at dksX4_readNumber_3 16 rfl rfl)
theorem dX4_readNumber_86 : decode cX4_readNumber 86 = .ok (.ifCond .ne 7, 3) := dk_154 0 7 (dk_at dksX4_readNumber_3 17 rfl rfl)
theorem dX4_readNumber_89 : decode cX4_readNumber 89 = .ok (.iconst 1, 1) := dk_4 (dk_at dksX4_readNumber_3 20 rfl rfl)
theorem dX4_readNumber_90 : decode cX4_readNumber 90 = .ok (.goto 4, 3) := dk_167 0 4 (dk_at dksX4_readNumber_3 21 rfl rfl)
theorem dX4_readNumber_93 : decode cX4_readNumber 93 = .ok (.iconst 0, 1) := dk_3 (dk_at dksX4_readNumber_4 0 rfl rfl)
theorem dX4_readNumber_94 : decode cX4_readNumber 94 = .ok (.istore 4, 2) := dk_54 4 (dk_at dksX4_readNumber_4 1 rfl rfl)
theorem dX4_readNumber_96 : decode cX4_readNumber 96 = .ok (.iload 4, 2) := dk_21 4 (dk_at dksX4_readNumber_4 3 rfl rfl)
theorem dX4_readNumber_98 : decode cX4_readNumber 98 = .ok (.ifCond .ne 14, 3) := dk_154 0 14 (dk_at dksX4_readNumber_4 5 rfl rfl)
theorem dX4_readNumber_101 : decode cX4_readNumber 101 = .ok (.aload_n 0, 1) := dk_42 (dk_at dksX4_readNumber_4 8 rfl rfl)
theorem dX4_readNumber_102 : decode cX4_readNumber 102 = .ok (.iload_n 3, 1) := dk_29 (dk_at dksX4_readNumber_4 9 rfl rfl)
theorem dX4_readNumber_103 : decode cX4_readNumber 103 = .ok (.putfield 364, 3) := dk_181 1 108 (dk_at dksX4_readNumber_4 10 rfl rfl)
theorem dX4_readNumber_106 : decode cX4_readNumber 106 = .ok (.aload_n 0, 1) := dk_42 (dk_at dksX4_readNumber_4 13 rfl rfl)
theorem dX4_readNumber_107 : decode cX4_readNumber 107 = .ok (.iconst 1, 1) := dk_4 (dk_at dksX4_readNumber_4 14 rfl rfl)
theorem dX4_readNumber_108 : decode cX4_readNumber 108 = .ok (.putfield 382, 3) := dk_181 1 126 (dk_at dksX4_readNumber_4 15 rfl rfl)
theorem dX4_readNumber_111 : decode cX4_readNumber 111 = .ok (.return_, 1) := dk_177 (dk_at dksX4_readNumber_4 18 rfl rfl)
theorem dX4_readNumber_112 : decode cX4_readNumber 112 = .ok (.aload_n 0, 1) := dk_42 (dk_at dksX4_readNumber_4 19 rfl rfl)
theorem dX4_readNumber_113 : decode cX4_readNumber 113 = .ok (.getfield 373, 3) := dk_180 1 117 (dk_at dksX4_readNumber_4 20 rfl rfl)
theorem dX4_readNumber_116 : decode cX4_readNumber 116 = .ok (.invokestatic 242, 3) := dk_184 0 242 (dk_at dksX4_readNumber_5 0 rfl rfl)
theorem dX4_readNumber_119 : decode cX4_readNumber 119 = .ok (.istore_n 2, 1) := dk_61 (dk_at dksX4_readNumber_5 3 rfl rfl)
theorem dX4_readNumber_120 : decode cX4_readNumber 120 = .ok (.aload_n 0, 1) := dk_42 (dk_at dksX4_readNumber_5 4 rfl rfl)
theorem dX4_readNumber_121 : decode cX4_readNumber 121 = .ok (.getfield 386, 3) := dk_180 1 130 (dk_at dksX4_readNumber_5 5 rfl rfl)
theorem dX4_readNumber_124 : decode cX4_readNumber 124 = .ok (.ifCond .eq 46, 3) := dk_153 0 46 (dk_at dksX4_readNumber_5 8 rfl rfl)
theorem dX4_readNumber_127 : decode cX4_readNumber 127 = .ok (.aload_n 0, 1) := dk_42 (dk_at dksX4_readNumber_5 11 rfl rfl)
theorem dX4_readNumber_128 : decode cX4_readNumber 128 = .ok (.getfield 389, 3) := dk_180 1 133 (dk_at dksX4_readNumber_5 12 rfl rfl)
theorem dX4_readNumber_131 : decode cX4_readNumber 131 = .ok (.ifCond .ne 39, 3) := dk_154 0 39 (dk_at dksX4_readNumber_5 15 rfl rfl)
theorem dX4_readNumber_134 : decode cX4_readNumber 134 = .ok (.aload_n 0, 1) := dk_42 (dk_at dksX4_readNumber_5 18 rfl rfl)
theorem dX4_readNumber_135 : decode cX4_readNumber 135 = .ok (.aload_n 0, 1) := dk_42 (dk_at dksX4_readNumber_5 19 rfl rfl)
theorem dX4_readNumber_136 : decode cX4_readNumber 136 = .ok (.iload_n 1, 1) := dk_27 (dk_at dksX4_readNumber_5 20 rfl rfl)
theorem dX4_readNumber_137 : decode cX4_readNumber 137 = .ok (.i2l, 1) := dk_133 (dk_at dksX4_readNumber_5 21 rfl rfl)
theorem dX4_readNumber_138 : decode cX4_readNumber 138 = .ok (.bipush 40, 2) := dk_16 40 (dk_at dksX4_readNumber_5 22 rfl rfl)
theorem dX4_readNumber_140 : decode cX4_readNumber 140 = .ok (.iload_n 2, 1) := dk_28 (dk_at dksX4_readNumber_6 0 rfl rfl)
theorem dX4_readNumber_141 : decode cX4_readNumber 141 = .ok (.isub, 1) := dk_100 (dk_at dksX4_readNumber_6 1 rfl rfl)
theorem dX4_readNumber_142 : decode cX4_readNumber 142 = .ok (.lshl, 1) := dk_121 (dk_at dksX4_readNumber_6 2 rfl rfl)
theorem dX4_readNumber_143 : decode cX4_readNumber 143 = .ok (.invokevirtual 294, 3) := dk_182 1 38 (dk_at dksX4_readNumber_6 3 rfl rfl)
theorem dX4_readNumber_146 : decode cX4_readNumber 146 = .ok (.ifCond .ne 7, 3) := dk_154 0 7 (dk_at dksX4_readNumber_6 6 rfl rfl)
theorem dX4_readNumber_149 : decode cX4_readNumber 149 = .ok (.iconst 1, 1) := dk_4 (dk_at dksX4_readNumber_6 9 rfl rfl)
theorem dX4_readNumber_150 : decode cX4_readNumber 150 = .ok (.goto 4, 3) := dk_167 0 4 (dk_at dksX4_readNumber_6 10 rfl rfl)
theorem dX4_readNumber_153 : decode cX4_readNumber 153 = .ok (.iconst 0, 1) := dk_3 (dk_at dksX4_readNumber_6 13 rfl rfl)
theorem dX4_readNumber_154 : decode cX4_readNumber 154 = .ok (.putfield 389, 3) := dk_181 1 133 (dk_at dksX4_readNumber_6 14 rfl rfl)
theorem dX4_readNumber_157 : decode cX4_readNumber 157 = .ok (.aload_n 0, 1) := dk_42 (dk_at dksX4_readNumber_6 17 rfl rfl)
theorem dX4_readNumber_158 : decode cX4_readNumber 158 = .ok (.getfield 82, 3) := dk_180 0 82 (dk_at dksX4_readNumber_6 18 rfl rfl)
theorem dX4_readNumber_161 : decode cX4_readNumber 161 = .ok (.iconst 0, 1) := dk_3 (dk_at dksX4_readNumber_6 21 rfl rfl)
theorem dX4_readNumber_162 : decode cX4_readNumber 162 = .ok (.aload_n 0, 1) := dk_42 (dk_at dksX4_readNumber_6 22 rfl rfl)
theorem dX4_readNumber_163 : decode cX4_readNumber 163 = .ok (.getfield 131, 3) := dk_180 0 131 (dk_at dksX4_readNumber_7 0 rfl rfl)
theorem dX4_readNumber_166 : decode cX4_readNumber 166 = .ok (.iconst 0, 1) := dk_3 (dk_at dksX4_readNumber_7 3 rfl rfl)
theorem dX4_readNumber_167 : decode cX4_readNumber 167 = .ok (.invokestatic 231, 3) := dk_184 0 231 (dk_at dksX4_readNumber_7 4 rfl rfl)
theorem dX4_readNumber_170 : decode cX4_readNumber 170 = .ok (.return_, 1) := dk_177 (dk_at dksX4_readNumber_7 7 rfl rfl)
abbrev cX4_reads : ByteArray := prog_18_method_80_code
def yX4_reads : MethodName := ⟨RX4, "reads", "(I)Z"⟩
def dkwX4_reads_5 : List UInt8 := [167, 0, 4, 28, 181, 1, 108, 21, 4, 172]
abbrev dktX4_reads_5 : List UInt8 := dkwX4_reads_5 ++ []
def dkwX4_reads_4 : List UInt8 := [28, 46, 16, 48, 159, 0, 7, 4, 167, 0, 4, 3, 54, 4, 42, 21, 4, 153, 0, 10, 42, 180, 1, 108]
abbrev dktX4_reads_4 : List UInt8 := dkwX4_reads_4 ++ dktX4_reads_5
def dkwX4_reads_3 : List UInt8 := [180, 1, 108, 28, 100, 62, 29, 158, 0, 28, 29, 27, 163, 0, 23, 29, 4, 159, 0, 14, 42, 180, 0, 25]
abbrev dktX4_reads_3 : List UInt8 := dkwX4_reads_3 ++ dktX4_reads_4
def dkwX4_reads_2 : List UInt8 := [182, 1, 111, 96, 16, 48, 100, 181, 1, 117, 42, 89, 180, 1, 108, 4, 96, 181, 1, 108, 167, 255, 203, 42]
abbrev dktX4_reads_2 : List UInt8 := dkwX4_reads_2 ++ dktX4_reads_3
def dkwX4_reads_1 : List UInt8 := [180, 1, 117, 17, 39, 15, 164, 0, 10, 42, 180, 1, 117, 167, 0, 18, 16, 10, 42, 180, 1, 117, 104, 42]
abbrev dktX4_reads_1 : List UInt8 := dkwX4_reads_1 ++ dktX4_reads_2
def dkwX4_reads_0 : List UInt8 := [42, 182, 1, 114, 42, 180, 1, 108, 61, 42, 3, 181, 1, 117, 42, 182, 1, 120, 153, 0, 52, 42, 42]
abbrev dktX4_reads_0 : List UInt8 := dkwX4_reads_0 ++ dktX4_reads_1
theorem dksX4_reads_0 : cX4_reads.data.toList.drop 0 = dktX4_reads_0 := by decide +kernel
theorem dksX4_reads_1 : cX4_reads.data.toList.drop 23 = dktX4_reads_1 := dk_seg dksX4_reads_0 23 rfl rfl
theorem dksX4_reads_2 : cX4_reads.data.toList.drop 47 = dktX4_reads_2 := dk_seg dksX4_reads_1 24 rfl rfl
theorem dksX4_reads_3 : cX4_reads.data.toList.drop 71 = dktX4_reads_3 := dk_seg dksX4_reads_2 24 rfl rfl
theorem dksX4_reads_4 : cX4_reads.data.toList.drop 95 = dktX4_reads_4 := dk_seg dksX4_reads_3 24 rfl rfl
theorem dksX4_reads_5 : cX4_reads.data.toList.drop 119 = dktX4_reads_5 := dk_seg dksX4_reads_4 24 rfl rfl
theorem dX4_reads_0 : decode cX4_reads 0 = .ok (.aload_n 0, 1) := dk_42 (dk_at dksX4_reads_0 0 rfl rfl)
theorem dX4_reads_1 : decode cX4_reads 1 = .ok (.invokevirtual 370, 3) := dk_182 1 114 (dk_at dksX4_reads_0 1 rfl rfl)
theorem dX4_reads_4 : decode cX4_reads 4 = .ok (.aload_n 0, 1) := dk_42 (dk_at dksX4_reads_0 4 rfl rfl)
theorem dX4_reads_5 : decode cX4_reads 5 = .ok (.getfield 364, 3) := dk_180 1 108 (dk_at dksX4_reads_0 5 rfl rfl)
theorem dX4_reads_8 : decode cX4_reads 8 = .ok (.istore_n 2, 1) := dk_61 (dk_at dksX4_reads_0 8 rfl rfl)
theorem dX4_reads_9 : decode cX4_reads 9 = .ok (.aload_n 0, 1) := dk_42 (dk_at dksX4_reads_0 9 rfl rfl)
theorem dX4_reads_10 : decode cX4_reads 10 = .ok (.iconst 0, 1) := dk_3 (dk_at dksX4_reads_0 10 rfl rfl)
theorem dX4_reads_11 : decode cX4_reads 11 = .ok (.putfield 373, 3) := dk_181 1 117 (dk_at dksX4_reads_0 11 rfl rfl)
theorem dX4_reads_14 : decode cX4_reads 14 = .ok (.aload_n 0, 1) := dk_42 (dk_at dksX4_reads_0 14 rfl rfl)
theorem dX4_reads_15 : decode cX4_reads 15 = .ok (.invokevirtual 376, 3) := dk_182 1 120 (dk_at dksX4_reads_0 15 rfl rfl)
theorem dX4_reads_18 : decode cX4_reads 18 = .ok (.ifCond .eq 52, 3) := dk_153 0 52 (dk_at dksX4_reads_0 18 rfl rfl)
theorem dX4_reads_21 : decode cX4_reads 21 = .ok (.aload_n 0, 1) := dk_42 (dk_at dksX4_reads_0 21 rfl rfl)
theorem dX4_reads_22 : decode cX4_reads 22 = .ok (.aload_n 0, 1) := dk_42 (dk_at dksX4_reads_0 22 rfl rfl)
theorem dX4_reads_23 : decode cX4_reads 23 = .ok (.getfield 373, 3) := dk_180 1 117 (dk_at dksX4_reads_1 0 rfl rfl)
theorem dX4_reads_26 : decode cX4_reads 26 = .ok (.sipush 9999, 3) := dk_17 39 15 (dk_at dksX4_reads_1 3 rfl rfl)
theorem dX4_reads_29 : decode cX4_reads 29 = .ok (.if_icmp .le 10, 3) := dk_164 0 10 (dk_at dksX4_reads_1 6 rfl rfl)
theorem dX4_reads_32 : decode cX4_reads 32 = .ok (.aload_n 0, 1) := dk_42 (dk_at dksX4_reads_1 9 rfl rfl)
theorem dX4_reads_33 : decode cX4_reads 33 = .ok (.getfield 373, 3) := dk_180 1 117 (dk_at dksX4_reads_1 10 rfl rfl)
theorem dX4_reads_36 : decode cX4_reads 36 = .ok (.goto 18, 3) := dk_167 0 18 (dk_at dksX4_reads_1 13 rfl rfl)
theorem dX4_reads_39 : decode cX4_reads 39 = .ok (.bipush 10, 2) := dk_16 10 (dk_at dksX4_reads_1 16 rfl rfl)
theorem dX4_reads_41 : decode cX4_reads 41 = .ok (.aload_n 0, 1) := dk_42 (dk_at dksX4_reads_1 18 rfl rfl)
theorem dX4_reads_42 : decode cX4_reads 42 = .ok (.getfield 373, 3) := dk_180 1 117 (dk_at dksX4_reads_1 19 rfl rfl)
theorem dX4_reads_45 : decode cX4_reads 45 = .ok (.imul, 1) := dk_104 (dk_at dksX4_reads_1 22 rfl rfl)
theorem dX4_reads_46 : decode cX4_reads 46 = .ok (.aload_n 0, 1) := dk_42 (dk_at dksX4_reads_1 23 rfl rfl)
theorem dX4_reads_47 : decode cX4_reads 47 = .ok (.invokevirtual 367, 3) := dk_182 1 111 (dk_at dksX4_reads_2 0 rfl rfl)
theorem dX4_reads_50 : decode cX4_reads 50 = .ok (.iadd, 1) := dk_96 (dk_at dksX4_reads_2 3 rfl rfl)
theorem dX4_reads_51 : decode cX4_reads 51 = .ok (.bipush 48, 2) := dk_16 48 (dk_at dksX4_reads_2 4 rfl rfl)
theorem dX4_reads_53 : decode cX4_reads 53 = .ok (.isub, 1) := dk_100 (dk_at dksX4_reads_2 6 rfl rfl)
theorem dX4_reads_54 : decode cX4_reads 54 = .ok (.putfield 373, 3) := dk_181 1 117 (dk_at dksX4_reads_2 7 rfl rfl)
theorem dX4_reads_57 : decode cX4_reads 57 = .ok (.aload_n 0, 1) := dk_42 (dk_at dksX4_reads_2 10 rfl rfl)
theorem dX4_reads_58 : decode cX4_reads 58 = .ok (.dup, 1) := dk_89 (dk_at dksX4_reads_2 11 rfl rfl)
theorem dX4_reads_59 : decode cX4_reads 59 = .ok (.getfield 364, 3) := dk_180 1 108 (dk_at dksX4_reads_2 12 rfl rfl)
theorem dX4_reads_62 : decode cX4_reads 62 = .ok (.iconst 1, 1) := dk_4 (dk_at dksX4_reads_2 15 rfl rfl)
theorem dX4_reads_63 : decode cX4_reads 63 = .ok (.iadd, 1) := dk_96 (dk_at dksX4_reads_2 16 rfl rfl)
theorem dX4_reads_64 : decode cX4_reads 64 = .ok (.putfield 364, 3) := dk_181 1 108 (dk_at dksX4_reads_2 17 rfl rfl)
theorem dX4_reads_67 : decode cX4_reads 67 = .ok (.goto (-53), 3) := dk_167 255 203 (dk_at dksX4_reads_2 20 rfl rfl)
theorem dX4_reads_70 : decode cX4_reads 70 = .ok (.aload_n 0, 1) := dk_42 (dk_at dksX4_reads_2 23 rfl rfl)
theorem dX4_reads_71 : decode cX4_reads 71 = .ok (.getfield 364, 3) := dk_180 1 108 (dk_at dksX4_reads_3 0 rfl rfl)
theorem dX4_reads_74 : decode cX4_reads 74 = .ok (.iload_n 2, 1) := dk_28 (dk_at dksX4_reads_3 3 rfl rfl)
theorem dX4_reads_75 : decode cX4_reads 75 = .ok (.isub, 1) := dk_100 (dk_at dksX4_reads_3 4 rfl rfl)
theorem dX4_reads_76 : decode cX4_reads 76 = .ok (.istore_n 3, 1) := dk_62 (dk_at dksX4_reads_3 5 rfl rfl)
theorem dX4_reads_77 : decode cX4_reads 77 = .ok (.iload_n 3, 1) := dk_29 (dk_at dksX4_reads_3 6 rfl rfl)
theorem dX4_reads_78 : decode cX4_reads 78 = .ok (.ifCond .le 28, 3) := dk_158 0 28 (dk_at dksX4_reads_3 7 rfl rfl)
theorem dX4_reads_81 : decode cX4_reads 81 = .ok (.iload_n 3, 1) := dk_29 (dk_at dksX4_reads_3 10 rfl rfl)
theorem dX4_reads_82 : decode cX4_reads 82 = .ok (.iload_n 1, 1) := dk_27 (dk_at dksX4_reads_3 11 rfl rfl)
theorem dX4_reads_83 : decode cX4_reads 83 = .ok (.if_icmp .gt 23, 3) := dk_163 0 23 (dk_at dksX4_reads_3 12 rfl rfl)
theorem dX4_reads_86 : decode cX4_reads 86 = .ok (.iload_n 3, 1) := dk_29 (dk_at dksX4_reads_3 15 rfl rfl)
theorem dX4_reads_87 : decode cX4_reads 87 = .ok (.iconst 1, 1) := dk_4 (dk_at dksX4_reads_3 16 rfl rfl)
theorem dX4_reads_88 : decode cX4_reads 88 = .ok (.if_icmp .eq 14, 3) := dk_159 0 14 (dk_at dksX4_reads_3 17 rfl rfl)
theorem dX4_reads_91 : decode cX4_reads 91 = .ok (.aload_n 0, 1) := dk_42 (dk_at dksX4_reads_3 20 rfl rfl)
theorem dX4_reads_92 : decode cX4_reads 92 = .ok (.getfield 25, 3) := dk_180 0 25 (dk_at dksX4_reads_3 21 rfl rfl)
theorem dX4_reads_95 : decode cX4_reads 95 = .ok (.iload_n 2, 1) := dk_28 (dk_at dksX4_reads_4 0 rfl rfl)
theorem dX4_reads_96 : decode cX4_reads 96 = .ok (.iaload, 1) := dk_46 (dk_at dksX4_reads_4 1 rfl rfl)
theorem dX4_reads_97 : decode cX4_reads 97 = .ok (.bipush 48, 2) := dk_16 48 (dk_at dksX4_reads_4 2 rfl rfl)
theorem dX4_reads_99 : decode cX4_reads 99 = .ok (.if_icmp .eq 7, 3) := dk_159 0 7 (dk_at dksX4_reads_4 4 rfl rfl)
theorem dX4_reads_102 : decode cX4_reads 102 = .ok (.iconst 1, 1) := dk_4 (dk_at dksX4_reads_4 7 rfl rfl)
theorem dX4_reads_103 : decode cX4_reads 103 = .ok (.goto 4, 3) := dk_167 0 4 (dk_at dksX4_reads_4 8 rfl rfl)
theorem dX4_reads_106 : decode cX4_reads 106 = .ok (.iconst 0, 1) := dk_3 (dk_at dksX4_reads_4 11 rfl rfl)
theorem dX4_reads_107 : decode cX4_reads 107 = .ok (.istore 4, 2) := dk_54 4 (dk_at dksX4_reads_4 12 rfl rfl)
theorem dX4_reads_109 : decode cX4_reads 109 = .ok (.aload_n 0, 1) := dk_42 (dk_at dksX4_reads_4 14 rfl rfl)
theorem dX4_reads_110 : decode cX4_reads 110 = .ok (.iload 4, 2) := dk_21 4 (dk_at dksX4_reads_4 15 rfl rfl)
theorem dX4_reads_112 : decode cX4_reads 112 = .ok (.ifCond .eq 10, 3) := dk_153 0 10 (dk_at dksX4_reads_4 17 rfl rfl)
theorem dX4_reads_115 : decode cX4_reads 115 = .ok (.aload_n 0, 1) := dk_42 (dk_at dksX4_reads_4 20 rfl rfl)
theorem dX4_reads_116 : decode cX4_reads 116 = .ok (.getfield 364, 3) := dk_180 1 108 (dk_at dksX4_reads_4 21 rfl rfl)
theorem dX4_reads_119 : decode cX4_reads 119 = .ok (.goto 4, 3) := dk_167 0 4 (dk_at dksX4_reads_5 0 rfl rfl)
theorem dX4_reads_122 : decode cX4_reads 122 = .ok (.iload_n 2, 1) := dk_28 (dk_at dksX4_reads_5 3 rfl rfl)
theorem dX4_reads_123 : decode cX4_reads 123 = .ok (.putfield 364, 3) := dk_181 1 108 (dk_at dksX4_reads_5 4 rfl rfl)
theorem dX4_reads_126 : decode cX4_reads 126 = .ok (.iload 4, 2) := dk_21 4 (dk_at dksX4_reads_5 7 rfl rfl)
theorem dX4_reads_128 : decode cX4_reads 128 = .ok (.ireturn, 1) := dk_172 (dk_at dksX4_reads_5 9 rfl rfl)
abbrev cX4_isDigit : ByteArray := prog_18_method_79_code
def yX4_isDigit : MethodName := ⟨RX4, "isDigit", "()Z"⟩
def dkwX4_isDigit_0 : List UInt8 := [42, 182, 1, 111, 16, 48, 16, 57, 184, 0, 153, 172]
abbrev dktX4_isDigit_0 : List UInt8 := dkwX4_isDigit_0 ++ []
theorem dksX4_isDigit_0 : cX4_isDigit.data.toList.drop 0 = dktX4_isDigit_0 := by decide +kernel
theorem dX4_isDigit_0 : decode cX4_isDigit 0 = .ok (.aload_n 0, 1) := dk_42 (dk_at dksX4_isDigit_0 0 rfl rfl)
theorem dX4_isDigit_1 : decode cX4_isDigit 1 = .ok (.invokevirtual 367, 3) := dk_182 1 111 (dk_at dksX4_isDigit_0 1 rfl rfl)
theorem dX4_isDigit_4 : decode cX4_isDigit 4 = .ok (.bipush 48, 2) := dk_16 48 (dk_at dksX4_isDigit_0 4 rfl rfl)
theorem dX4_isDigit_6 : decode cX4_isDigit 6 = .ok (.bipush 57, 2) := dk_16 57 (dk_at dksX4_isDigit_0 6 rfl rfl)
theorem dX4_isDigit_8 : decode cX4_isDigit 8 = .ok (.invokestatic 153, 3) := dk_184 0 153 (dk_at dksX4_isDigit_0 8 rfl rfl)
theorem dX4_isDigit_11 : decode cX4_isDigit 11 = .ok (.ireturn, 1) := dk_172 (dk_at dksX4_isDigit_0 11 rfl rfl)
abbrev cX4_readGame : ByteArray := prog_18_method_84_code
def yX4_readGame : MethodName := ⟨RX4, "readGame", "(I)V"⟩
def dkwX4_readGame_3 : List UInt8 := [16, 94, 160, 0, 7, 28, 167, 0, 5, 28, 116, 3, 182, 1, 23, 42, 180, 0, 131, 3, 184, 0, 231, 177]
abbrev dktX4_readGame_3 : List UInt8 := dkwX4_readGame_3 ++ []
def dkwX4_readGame_2 : List UInt8 := [180, 0, 131, 3, 184, 0, 231, 167, 0, 39, 42, 4, 7, 182, 1, 139, 61, 42, 180, 0, 28, 42, 27]
abbrev dktX4_readGame_2 : List UInt8 := dkwX4_readGame_2 ++ dktX4_readGame_3
def dkwX4_readGame_1 : List UInt8 := [16, 42, 160, 0, 30, 42, 42, 3, 16, 6, 182, 1, 139, 182, 1, 20, 42, 180, 0, 82, 3, 42]
abbrev dktX4_readGame_1 : List UInt8 := dkwX4_readGame_1 ++ dktX4_readGame_2
def dkwX4_readGame_0 : List UInt8 := [42, 89, 180, 1, 108, 4, 96, 181, 1, 108, 27, 16, 35, 160, 0, 10, 42, 182, 1, 136, 167, 0, 72, 27]
abbrev dktX4_readGame_0 : List UInt8 := dkwX4_readGame_0 ++ dktX4_readGame_1
theorem dksX4_readGame_0 : cX4_readGame.data.toList.drop 0 = dktX4_readGame_0 := by decide +kernel
theorem dksX4_readGame_1 : cX4_readGame.data.toList.drop 24 = dktX4_readGame_1 := dk_seg dksX4_readGame_0 24 rfl rfl
theorem dksX4_readGame_2 : cX4_readGame.data.toList.drop 46 = dktX4_readGame_2 := dk_seg dksX4_readGame_1 22 rfl rfl
theorem dksX4_readGame_3 : cX4_readGame.data.toList.drop 69 = dktX4_readGame_3 := dk_seg dksX4_readGame_2 23 rfl rfl
theorem dX4_readGame_0 : decode cX4_readGame 0 = .ok (.aload_n 0, 1) := dk_42 (dk_at dksX4_readGame_0 0 rfl rfl)
theorem dX4_readGame_1 : decode cX4_readGame 1 = .ok (.dup, 1) := dk_89 (dk_at dksX4_readGame_0 1 rfl rfl)
theorem dX4_readGame_2 : decode cX4_readGame 2 = .ok (.getfield 364, 3) := dk_180 1 108 (dk_at dksX4_readGame_0 2 rfl rfl)
theorem dX4_readGame_5 : decode cX4_readGame 5 = .ok (.iconst 1, 1) := dk_4 (dk_at dksX4_readGame_0 5 rfl rfl)
theorem dX4_readGame_6 : decode cX4_readGame 6 = .ok (.iadd, 1) := dk_96 (dk_at dksX4_readGame_0 6 rfl rfl)
theorem dX4_readGame_7 : decode cX4_readGame 7 = .ok (.putfield 364, 3) := dk_181 1 108 (dk_at dksX4_readGame_0 7 rfl rfl)
theorem dX4_readGame_10 : decode cX4_readGame 10 = .ok (.iload_n 1, 1) := dk_27 (dk_at dksX4_readGame_0 10 rfl rfl)
theorem dX4_readGame_11 : decode cX4_readGame 11 = .ok (.bipush 35, 2) := dk_16 35 (dk_at dksX4_readGame_0 11 rfl rfl)
theorem dX4_readGame_13 : decode cX4_readGame 13 = .ok (.if_icmp .ne 10, 3) := dk_160 0 10 (dk_at dksX4_readGame_0 13 rfl rfl)
theorem dX4_readGame_16 : decode cX4_readGame 16 = .ok (.aload_n 0, 1) := dk_42 (dk_at dksX4_readGame_0 16 rfl rfl)
theorem dX4_readGame_17 : decode cX4_readGame 17 = .ok (.invokevirtual 392, 3) := dk_182 1 136 (dk_at dksX4_readGame_0 17 rfl rfl)
theorem dX4_readGame_20 : decode cX4_readGame 20 = .ok (.goto 72, 3) := dk_167 0 72 (dk_at dksX4_readGame_0 20 rfl rfl)
theorem dX4_readGame_23 : decode cX4_readGame 23 = .ok (.iload_n 1, 1) := dk_27 (dk_at dksX4_readGame_0 23 rfl rfl)
theorem dX4_readGame_24 : decode cX4_readGame 24 = .ok (.bipush 42, 2) := dk_16 42 (dk_at dksX4_readGame_1 0 rfl rfl)
theorem dX4_readGame_26 : decode cX4_readGame 26 = .ok (.if_icmp .ne 30, 3) := dk_160 0 30 (dk_at dksX4_readGame_1 2 rfl rfl)
theorem dX4_readGame_29 : decode cX4_readGame 29 = .ok (.aload_n 0, 1) := dk_42 (dk_at dksX4_readGame_1 5 rfl rfl)
theorem dX4_readGame_30 : decode cX4_readGame 30 = .ok (.aload_n 0, 1) := dk_42 (dk_at dksX4_readGame_1 6 rfl rfl)
theorem dX4_readGame_31 : decode cX4_readGame 31 = .ok (.iconst 0, 1) := dk_3 (dk_at dksX4_readGame_1 7 rfl rfl)
theorem dX4_readGame_32 : decode cX4_readGame 32 = .ok (.bipush 6, 2) := dk_16 6 (dk_at dksX4_readGame_1 8 rfl rfl)
theorem dX4_readGame_34 : decode cX4_readGame 34 = .ok (.invokevirtual 395, 3) := dk_182 1 139 (dk_at dksX4_readGame_1 10 rfl rfl)
theorem dX4_readGame_37 : decode cX4_readGame 37 = .ok (.invokevirtual 276, 3) := dk_182 1 20 (dk_at dksX4_readGame_1 13 rfl rfl)
theorem dX4_readGame_40 : decode cX4_readGame 40 = .ok (.aload_n 0, 1) := dk_42 (dk_at dksX4_readGame_1 16 rfl rfl)
theorem dX4_readGame_41 : decode cX4_readGame 41 = .ok (.getfield 82, 3) := dk_180 0 82 (dk_at dksX4_readGame_1 17 rfl rfl)
theorem dX4_readGame_44 : decode cX4_readGame 44 = .ok (.iconst 0, 1) := dk_3 (dk_at dksX4_readGame_1 20 rfl rfl)
theorem dX4_readGame_45 : decode cX4_readGame 45 = .ok (.aload_n 0, 1) := dk_42 (dk_at dksX4_readGame_1 21 rfl rfl)
theorem dX4_readGame_46 : decode cX4_readGame 46 = .ok (.getfield 131, 3) := dk_180 0 131 (dk_at dksX4_readGame_2 0 rfl rfl)
theorem dX4_readGame_49 : decode cX4_readGame 49 = .ok (.iconst 0, 1) := dk_3 (dk_at dksX4_readGame_2 3 rfl rfl)
theorem dX4_readGame_50 : decode cX4_readGame 50 = .ok (.invokestatic 231, 3) := dk_184 0 231 (dk_at dksX4_readGame_2 4 rfl rfl)
theorem dX4_readGame_53 : decode cX4_readGame 53 = .ok (.goto 39, 3) := dk_167 0 39 (dk_at dksX4_readGame_2 7 rfl rfl)
theorem dX4_readGame_56 : decode cX4_readGame 56 = .ok (.aload_n 0, 1) := dk_42 (dk_at dksX4_readGame_2 10 rfl rfl)
theorem dX4_readGame_57 : decode cX4_readGame 57 = .ok (.iconst 1, 1) := dk_4 (dk_at dksX4_readGame_2 11 rfl rfl)
theorem dX4_readGame_58 : decode cX4_readGame 58 = .ok (.iconst 4, 1) := dk_7 (dk_at dksX4_readGame_2 12 rfl rfl)
theorem dX4_readGame_59 : decode cX4_readGame 59 = .ok (.invokevirtual 395, 3) := dk_182 1 139 (dk_at dksX4_readGame_2 13 rfl rfl)
theorem dX4_readGame_62 : decode cX4_readGame 62 = .ok (.istore_n 2, 1) := dk_61 (dk_at dksX4_readGame_2 16 rfl rfl)
theorem dX4_readGame_63 : decode cX4_readGame 63 = .ok (.aload_n 0, 1) := dk_42 (dk_at dksX4_readGame_2 17 rfl rfl)
theorem dX4_readGame_64 : decode cX4_readGame 64 = .ok (.getfield 28, 3) := dk_180 0 28 (dk_at dksX4_readGame_2 18 rfl rfl)
theorem dX4_readGame_67 : decode cX4_readGame 67 = .ok (.aload_n 0, 1) := dk_42 (dk_at dksX4_readGame_2 21 rfl rfl)
theorem dX4_readGame_68 : decode cX4_readGame 68 = .ok (.iload_n 1, 1) := dk_27 (dk_at dksX4_readGame_2 22 rfl rfl)
theorem dX4_readGame_69 : decode cX4_readGame 69 = .ok (.bipush 94, 2) := dk_16 94 (dk_at dksX4_readGame_3 0 rfl rfl)
theorem dX4_readGame_71 : decode cX4_readGame 71 = .ok (.if_icmp .ne 7, 3) := dk_160 0 7 (dk_at dksX4_readGame_3 2 rfl rfl)
theorem dX4_readGame_74 : decode cX4_readGame 74 = .ok (.iload_n 2, 1) := dk_28 (dk_at dksX4_readGame_3 5 rfl rfl)
theorem dX4_readGame_75 : decode cX4_readGame 75 = .ok (.goto 5, 3) := dk_167 0 5 (dk_at dksX4_readGame_3 6 rfl rfl)
theorem dX4_readGame_78 : decode cX4_readGame 78 = .ok (.iload_n 2, 1) := dk_28 (dk_at dksX4_readGame_3 9 rfl rfl)
theorem dX4_readGame_79 : decode cX4_readGame 79 = .ok (.ineg, 1) := dk_116 (dk_at dksX4_readGame_3 10 rfl rfl)
theorem dX4_readGame_80 : decode cX4_readGame 80 = .ok (.iconst 0, 1) := dk_3 (dk_at dksX4_readGame_3 11 rfl rfl)
theorem dX4_readGame_81 : decode cX4_readGame 81 = .ok (.invokevirtual 279, 3) := dk_182 1 23 (dk_at dksX4_readGame_3 12 rfl rfl)
theorem dX4_readGame_84 : decode cX4_readGame 84 = .ok (.aload_n 0, 1) := dk_42 (dk_at dksX4_readGame_3 15 rfl rfl)
theorem dX4_readGame_85 : decode cX4_readGame 85 = .ok (.getfield 131, 3) := dk_180 0 131 (dk_at dksX4_readGame_3 16 rfl rfl)
theorem dX4_readGame_88 : decode cX4_readGame 88 = .ok (.iconst 0, 1) := dk_3 (dk_at dksX4_readGame_3 19 rfl rfl)
theorem dX4_readGame_89 : decode cX4_readGame 89 = .ok (.invokestatic 231, 3) := dk_184 0 231 (dk_at dksX4_readGame_3 20 rfl rfl)
theorem dX4_readGame_92 : decode cX4_readGame 92 = .ok (.return_, 1) := dk_177 (dk_at dksX4_readGame_3 23 rfl rfl)
abbrev cX4_readSlot : ByteArray := prog_18_method_83_code
def yX4_readSlot : MethodName := ⟨RX4, "readSlot", "()V"⟩
def dkwX4_readSlot_2 : List UInt8 := [104, 42, 180, 0, 131, 3, 184, 0, 231, 177]
abbrev dktX4_readSlot_2 : List UInt8 := dkwX4_readSlot_2 ++ []
def dkwX4_readSlot_1 : List UInt8 := [161, 0, 14, 42, 27, 181, 1, 108, 42, 4, 181, 1, 126, 177, 42, 180, 0, 9, 16, 65, 42, 180, 1, 117]
abbrev dktX4_readSlot_1 : List UInt8 := dkwX4_readSlot_1 ++ dktX4_readSlot_2
def dkwX4_readSlot_0 : List UInt8 := [42, 182, 1, 114, 42, 180, 1, 108, 60, 42, 5, 182, 1, 123, 153, 0, 12, 42, 180, 1, 117, 16, 12]
abbrev dktX4_readSlot_0 : List UInt8 := dkwX4_readSlot_0 ++ dktX4_readSlot_1
theorem dksX4_readSlot_0 : cX4_readSlot.data.toList.drop 0 = dktX4_readSlot_0 := by decide +kernel
theorem dksX4_readSlot_1 : cX4_readSlot.data.toList.drop 23 = dktX4_readSlot_1 := dk_seg dksX4_readSlot_0 23 rfl rfl
theorem dksX4_readSlot_2 : cX4_readSlot.data.toList.drop 47 = dktX4_readSlot_2 := dk_seg dksX4_readSlot_1 24 rfl rfl
theorem dX4_readSlot_0 : decode cX4_readSlot 0 = .ok (.aload_n 0, 1) := dk_42 (dk_at dksX4_readSlot_0 0 rfl rfl)
theorem dX4_readSlot_1 : decode cX4_readSlot 1 = .ok (.invokevirtual 370, 3) := dk_182 1 114 (dk_at dksX4_readSlot_0 1 rfl rfl)
theorem dX4_readSlot_4 : decode cX4_readSlot 4 = .ok (.aload_n 0, 1) := dk_42 (dk_at dksX4_readSlot_0 4 rfl rfl)
theorem dX4_readSlot_5 : decode cX4_readSlot 5 = .ok (.getfield 364, 3) := dk_180 1 108 (dk_at dksX4_readSlot_0 5 rfl rfl)
theorem dX4_readSlot_8 : decode cX4_readSlot 8 = .ok (.istore_n 1, 1) := dk_60 (dk_at dksX4_readSlot_0 8 rfl rfl)
theorem dX4_readSlot_9 : decode cX4_readSlot 9 = .ok (.aload_n 0, 1) := dk_42 (dk_at dksX4_readSlot_0 9 rfl rfl)
theorem dX4_readSlot_10 : decode cX4_readSlot 10 = .ok (.iconst 2, 1) := dk_5 (dk_at dksX4_readSlot_0 10 rfl rfl)
theorem dX4_readSlot_11 : decode cX4_readSlot 11 = .ok (.invokevirtual 379, 3) := dk_182 1 123 (dk_at dksX4_readSlot_0 11 rfl rfl)
theorem dX4_readSlot_14 : decode cX4_readSlot 14 = .ok (.ifCond .eq 12, 3) := dk_153 0 12 (dk_at dksX4_readSlot_0 14 rfl rfl)
theorem dX4_readSlot_17 : decode cX4_readSlot 17 = .ok (.aload_n 0, 1) := dk_42 (dk_at dksX4_readSlot_0 17 rfl rfl)
theorem dX4_readSlot_18 : decode cX4_readSlot 18 = .ok (.getfield 373, 3) := dk_180 1 117 (dk_at dksX4_readSlot_0 18 rfl rfl)
theorem dX4_readSlot_21 : decode cX4_readSlot 21 = .ok (.bipush 12, 2) := dk_16 12 (dk_at dksX4_readSlot_0 21 rfl rfl)
theorem dX4_readSlot_23 : decode cX4_readSlot 23 = .ok (.if_icmp .lt 14, 3) := dk_161 0 14 (dk_at dksX4_readSlot_1 0 rfl rfl)
theorem dX4_readSlot_26 : decode cX4_readSlot 26 = .ok (.aload_n 0, 1) := dk_42 (dk_at dksX4_readSlot_1 3 rfl rfl)
theorem dX4_readSlot_27 : decode cX4_readSlot 27 = .ok (.iload_n 1, 1) := dk_27 (dk_at dksX4_readSlot_1 4 rfl rfl)
theorem dX4_readSlot_28 : decode cX4_readSlot 28 = .ok (.putfield 364, 3) := dk_181 1 108 (dk_at dksX4_readSlot_1 5 rfl rfl)
theorem dX4_readSlot_31 : decode cX4_readSlot 31 = .ok (.aload_n 0, 1) := dk_42 (dk_at dksX4_readSlot_1 8 rfl rfl)
theorem dX4_readSlot_32 : decode cX4_readSlot 32 = .ok (.iconst 1, 1) := dk_4 (dk_at dksX4_readSlot_1 9 rfl rfl)
theorem dX4_readSlot_33 : decode cX4_readSlot 33 = .ok (.putfield 382, 3) := dk_181 1 126 (dk_at dksX4_readSlot_1 10 rfl rfl)
theorem dX4_readSlot_36 : decode cX4_readSlot 36 = .ok (.return_, 1) := dk_177 (dk_at dksX4_readSlot_1 13 rfl rfl)
theorem dX4_readSlot_37 : decode cX4_readSlot 37 = .ok (.aload_n 0, 1) := dk_42 (dk_at dksX4_readSlot_1 14 rfl rfl)
theorem dX4_readSlot_38 : decode cX4_readSlot 38 = .ok (.getfield 9, 3) := dk_180 0 9 (dk_at dksX4_readSlot_1 15 rfl rfl)
theorem dX4_readSlot_41 : decode cX4_readSlot 41 = .ok (.bipush 65, 2) := dk_16 65 (dk_at dksX4_readSlot_1 18 rfl rfl)
theorem dX4_readSlot_43 : decode cX4_readSlot 43 = .ok (.aload_n 0, 1) := dk_42 (dk_at dksX4_readSlot_1 20 rfl rfl)
theorem dX4_readSlot_44 : decode cX4_readSlot 44 = .ok (.getfield 373, 3) := dk_180 1 117 (dk_at dksX4_readSlot_1 21 rfl rfl)
theorem dX4_readSlot_47 : decode cX4_readSlot 47 = .ok (.imul, 1) := dk_104 (dk_at dksX4_readSlot_2 0 rfl rfl)
theorem dX4_readSlot_48 : decode cX4_readSlot 48 = .ok (.aload_n 0, 1) := dk_42 (dk_at dksX4_readSlot_2 1 rfl rfl)
theorem dX4_readSlot_49 : decode cX4_readSlot 49 = .ok (.getfield 131, 3) := dk_180 0 131 (dk_at dksX4_readSlot_2 2 rfl rfl)
theorem dX4_readSlot_52 : decode cX4_readSlot 52 = .ok (.iconst 0, 1) := dk_3 (dk_at dksX4_readSlot_2 5 rfl rfl)
theorem dX4_readSlot_53 : decode cX4_readSlot 53 = .ok (.invokestatic 231, 3) := dk_184 0 231 (dk_at dksX4_readSlot_2 6 rfl rfl)
theorem dX4_readSlot_56 : decode cX4_readSlot 56 = .ok (.return_, 1) := dk_177 (dk_at dksX4_readSlot_2 9 rfl rfl)
abbrev cX4_digit : ByteArray := prog_18_method_82_code
def yX4_digit : MethodName := ⟨RX4, "digit", "(II)I"⟩
def dkwX4_digit_2 : List UInt8 := [172]
abbrev dktX4_digit_2 : List UInt8 := dkwX4_digit_2 ++ []
def dkwX4_digit_1 : List UInt8 := [42, 89, 180, 1, 108, 4, 96, 181, 1, 108, 42, 180, 0, 25, 42, 180, 1, 108, 4, 100, 46, 16, 48, 100]
abbrev dktX4_digit_1 : List UInt8 := dkwX4_digit_1 ++ dktX4_digit_2
def dkwX4_digit_0 : List UInt8 := [42, 182, 1, 114, 42, 182, 1, 111, 16, 48, 27, 96, 16, 48, 28, 96, 184, 0, 153, 154, 0, 5, 4, 172]
abbrev dktX4_digit_0 : List UInt8 := dkwX4_digit_0 ++ dktX4_digit_1
theorem dksX4_digit_0 : cX4_digit.data.toList.drop 0 = dktX4_digit_0 := by decide +kernel
theorem dksX4_digit_1 : cX4_digit.data.toList.drop 24 = dktX4_digit_1 := dk_seg dksX4_digit_0 24 rfl rfl
theorem dksX4_digit_2 : cX4_digit.data.toList.drop 48 = dktX4_digit_2 := dk_seg dksX4_digit_1 24 rfl rfl
theorem dX4_digit_0 : decode cX4_digit 0 = .ok (.aload_n 0, 1) := dk_42 (dk_at dksX4_digit_0 0 rfl rfl)
theorem dX4_digit_1 : decode cX4_digit 1 = .ok (.invokevirtual 370, 3) := dk_182 1 114 (dk_at dksX4_digit_0 1 rfl rfl)
theorem dX4_digit_4 : decode cX4_digit 4 = .ok (.aload_n 0, 1) := dk_42 (dk_at dksX4_digit_0 4 rfl rfl)
theorem dX4_digit_5 : decode cX4_digit 5 = .ok (.invokevirtual 367, 3) := dk_182 1 111 (dk_at dksX4_digit_0 5 rfl rfl)
theorem dX4_digit_8 : decode cX4_digit 8 = .ok (.bipush 48, 2) := dk_16 48 (dk_at dksX4_digit_0 8 rfl rfl)
theorem dX4_digit_10 : decode cX4_digit 10 = .ok (.iload_n 1, 1) := dk_27 (dk_at dksX4_digit_0 10 rfl rfl)
theorem dX4_digit_11 : decode cX4_digit 11 = .ok (.iadd, 1) := dk_96 (dk_at dksX4_digit_0 11 rfl rfl)
theorem dX4_digit_12 : decode cX4_digit 12 = .ok (.bipush 48, 2) := dk_16 48 (dk_at dksX4_digit_0 12 rfl rfl)
theorem dX4_digit_14 : decode cX4_digit 14 = .ok (.iload_n 2, 1) := dk_28 (dk_at dksX4_digit_0 14 rfl rfl)
theorem dX4_digit_15 : decode cX4_digit 15 = .ok (.iadd, 1) := dk_96 (dk_at dksX4_digit_0 15 rfl rfl)
theorem dX4_digit_16 : decode cX4_digit 16 = .ok (.invokestatic 153, 3) := dk_184 0 153 (dk_at dksX4_digit_0 16 rfl rfl)
theorem dX4_digit_19 : decode cX4_digit 19 = .ok (.ifCond .ne 5, 3) := dk_154 0 5 (dk_at dksX4_digit_0 19 rfl rfl)
theorem dX4_digit_22 : decode cX4_digit 22 = .ok (.iconst 1, 1) := dk_4 (dk_at dksX4_digit_0 22 rfl rfl)
theorem dX4_digit_23 : decode cX4_digit 23 = .ok (.ireturn, 1) := dk_172 (dk_at dksX4_digit_0 23 rfl rfl)
theorem dX4_digit_24 : decode cX4_digit 24 = .ok (.aload_n 0, 1) := dk_42 (dk_at dksX4_digit_1 0 rfl rfl)
theorem dX4_digit_25 : decode cX4_digit 25 = .ok (.dup, 1) := dk_89 (dk_at dksX4_digit_1 1 rfl rfl)
theorem dX4_digit_26 : decode cX4_digit 26 = .ok (.getfield 364, 3) := dk_180 1 108 (dk_at dksX4_digit_1 2 rfl rfl)
theorem dX4_digit_29 : decode cX4_digit 29 = .ok (.iconst 1, 1) := dk_4 (dk_at dksX4_digit_1 5 rfl rfl)
theorem dX4_digit_30 : decode cX4_digit 30 = .ok (.iadd, 1) := dk_96 (dk_at dksX4_digit_1 6 rfl rfl)
theorem dX4_digit_31 : decode cX4_digit 31 = .ok (.putfield 364, 3) := dk_181 1 108 (dk_at dksX4_digit_1 7 rfl rfl)
theorem dX4_digit_34 : decode cX4_digit 34 = .ok (.aload_n 0, 1) := dk_42 (dk_at dksX4_digit_1 10 rfl rfl)
theorem dX4_digit_35 : decode cX4_digit 35 = .ok (.getfield 25, 3) := dk_180 0 25 (dk_at dksX4_digit_1 11 rfl rfl)
theorem dX4_digit_38 : decode cX4_digit 38 = .ok (.aload_n 0, 1) := dk_42 (dk_at dksX4_digit_1 14 rfl rfl)
theorem dX4_digit_39 : decode cX4_digit 39 = .ok (.getfield 364, 3) := dk_180 1 108 (dk_at dksX4_digit_1 15 rfl rfl)
theorem dX4_digit_42 : decode cX4_digit 42 = .ok (.iconst 1, 1) := dk_4 (dk_at dksX4_digit_1 18 rfl rfl)
theorem dX4_digit_43 : decode cX4_digit 43 = .ok (.isub, 1) := dk_100 (dk_at dksX4_digit_1 19 rfl rfl)
theorem dX4_digit_44 : decode cX4_digit 44 = .ok (.iaload, 1) := dk_46 (dk_at dksX4_digit_1 20 rfl rfl)
theorem dX4_digit_45 : decode cX4_digit 45 = .ok (.bipush 48, 2) := dk_16 48 (dk_at dksX4_digit_1 21 rfl rfl)
theorem dX4_digit_47 : decode cX4_digit 47 = .ok (.isub, 1) := dk_100 (dk_at dksX4_digit_1 23 rfl rfl)
theorem dX4_digit_48 : decode cX4_digit 48 = .ok (.ireturn, 1) := dk_172 (dk_at dksX4_digit_2 0 rfl rfl)
abbrev cX4_compare : ByteArray := prog_18_method_97_code
def yX4_compare : MethodName := ⟨RX4, "compare", "(II)I"⟩
def dkwX4_compare_2 : List UInt8 := [16, 65, 28, 104, 3, 182, 1, 17, 182, 1, 184, 172]
abbrev dktX4_compare_2 : List UInt8 := dkwX4_compare_2 ++ []
def dkwX4_compare_1 : List UInt8 := [182, 1, 4, 42, 42, 180, 0, 9, 16, 65, 27, 104, 3, 182, 1, 17, 62, 42, 29, 42, 42, 180, 0, 9]
abbrev dktX4_compare_1 : List UInt8 := dkwX4_compare_1 ++ dktX4_compare_2
def dkwX4_compare_0 : List UInt8 := [42, 3, 181, 0, 146, 27, 184, 1, 34, 153, 0, 10, 28, 184, 1, 34, 154, 0, 7, 19, 1, 37, 172, 42]
abbrev dktX4_compare_0 : List UInt8 := dkwX4_compare_0 ++ dktX4_compare_1
theorem dksX4_compare_0 : cX4_compare.data.toList.drop 0 = dktX4_compare_0 := by decide +kernel
theorem dksX4_compare_1 : cX4_compare.data.toList.drop 24 = dktX4_compare_1 := dk_seg dksX4_compare_0 24 rfl rfl
theorem dksX4_compare_2 : cX4_compare.data.toList.drop 48 = dktX4_compare_2 := dk_seg dksX4_compare_1 24 rfl rfl
theorem dX4_compare_0 : decode cX4_compare 0 = .ok (.aload_n 0, 1) := dk_42 (dk_at dksX4_compare_0 0 rfl rfl)
theorem dX4_compare_1 : decode cX4_compare 1 = .ok (.iconst 0, 1) := dk_3 (dk_at dksX4_compare_0 1 rfl rfl)
theorem dX4_compare_2 : decode cX4_compare 2 = .ok (.putfield 146, 3) := dk_181 0 146 (dk_at dksX4_compare_0 2 rfl rfl)
theorem dX4_compare_5 : decode cX4_compare 5 = .ok (.iload_n 1, 1) := dk_27 (dk_at dksX4_compare_0 5 rfl rfl)
theorem dX4_compare_6 : decode cX4_compare 6 = .ok (.invokestatic 290, 3) := dk_184 1 34 (dk_at dksX4_compare_0 6 rfl rfl)
theorem dX4_compare_9 : decode cX4_compare 9 = .ok (.ifCond .eq 10, 3) := dk_153 0 10 (dk_at dksX4_compare_0 9 rfl rfl)
theorem dX4_compare_12 : decode cX4_compare 12 = .ok (.iload_n 2, 1) := dk_28 (dk_at dksX4_compare_0 12 rfl rfl)
theorem dX4_compare_13 : decode cX4_compare 13 = .ok (.invokestatic 290, 3) := dk_184 1 34 (dk_at dksX4_compare_0 13 rfl rfl)
theorem dX4_compare_16 : decode cX4_compare 16 = .ok (.ifCond .ne 7, 3) := dk_154 0 7 (dk_at dksX4_compare_0 16 rfl rfl)
theorem dX4_compare_19 : decode cX4_compare 19 = .ok (.ldc_w 293, 3) := dk_19 1 37 (dk_at dksX4_compare_0 19 rfl rfl)
theorem dX4_compare_22 : decode cX4_compare 22 = .ok (.ireturn, 1) := dk_172 (dk_at dksX4_compare_0 22 rfl rfl)
theorem dX4_compare_23 : decode cX4_compare 23 = .ok (.aload_n 0, 1) := dk_42 (dk_at dksX4_compare_0 23 rfl rfl)
theorem dX4_compare_24 : decode cX4_compare 24 = .ok (.invokevirtual 260, 3) := dk_182 1 4 (dk_at dksX4_compare_1 0 rfl rfl)
theorem dX4_compare_27 : decode cX4_compare 27 = .ok (.aload_n 0, 1) := dk_42 (dk_at dksX4_compare_1 3 rfl rfl)
theorem dX4_compare_28 : decode cX4_compare 28 = .ok (.aload_n 0, 1) := dk_42 (dk_at dksX4_compare_1 4 rfl rfl)
theorem dX4_compare_29 : decode cX4_compare 29 = .ok (.getfield 9, 3) := dk_180 0 9 (dk_at dksX4_compare_1 5 rfl rfl)
theorem dX4_compare_32 : decode cX4_compare 32 = .ok (.bipush 65, 2) := dk_16 65 (dk_at dksX4_compare_1 8 rfl rfl)
theorem dX4_compare_34 : decode cX4_compare 34 = .ok (.iload_n 1, 1) := dk_27 (dk_at dksX4_compare_1 10 rfl rfl)
theorem dX4_compare_35 : decode cX4_compare 35 = .ok (.imul, 1) := dk_104 (dk_at dksX4_compare_1 11 rfl rfl)
theorem dX4_compare_36 : decode cX4_compare 36 = .ok (.iconst 0, 1) := dk_3 (dk_at dksX4_compare_1 12 rfl rfl)
theorem dX4_compare_37 : decode cX4_compare 37 = .ok (.invokevirtual 273, 3) := dk_182 1 17 (dk_at dksX4_compare_1 13 rfl rfl)
theorem dX4_compare_40 : decode cX4_compare 40 = .ok (.istore_n 3, 1) := dk_62 (dk_at dksX4_compare_1 16 rfl rfl)
theorem dX4_compare_41 : decode cX4_compare 41 = .ok (.aload_n 0, 1) := dk_42 (dk_at dksX4_compare_1 17 rfl rfl)
theorem dX4_compare_42 : decode cX4_compare 42 = .ok (.iload_n 3, 1) := dk_29 (dk_at dksX4_compare_1 18 rfl rfl)
theorem dX4_compare_43 : decode cX4_compare 43 = .ok (.aload_n 0, 1) := dk_42 (dk_at dksX4_compare_1 19 rfl rfl)
theorem dX4_compare_44 : decode cX4_compare 44 = .ok (.aload_n 0, 1) := dk_42 (dk_at dksX4_compare_1 20 rfl rfl)
theorem dX4_compare_45 : decode cX4_compare 45 = .ok (.getfield 9, 3) := dk_180 0 9 (dk_at dksX4_compare_1 21 rfl rfl)
theorem dX4_compare_48 : decode cX4_compare 48 = .ok (.bipush 65, 2) := dk_16 65 (dk_at dksX4_compare_2 0 rfl rfl)
theorem dX4_compare_50 : decode cX4_compare 50 = .ok (.iload_n 2, 1) := dk_28 (dk_at dksX4_compare_2 2 rfl rfl)
theorem dX4_compare_51 : decode cX4_compare 51 = .ok (.imul, 1) := dk_104 (dk_at dksX4_compare_2 3 rfl rfl)
theorem dX4_compare_52 : decode cX4_compare 52 = .ok (.iconst 0, 1) := dk_3 (dk_at dksX4_compare_2 4 rfl rfl)
theorem dX4_compare_53 : decode cX4_compare 53 = .ok (.invokevirtual 273, 3) := dk_182 1 17 (dk_at dksX4_compare_2 5 rfl rfl)
theorem dX4_compare_56 : decode cX4_compare 56 = .ok (.invokevirtual 440, 3) := dk_182 1 184 (dk_at dksX4_compare_2 8 rfl rfl)
theorem dX4_compare_59 : decode cX4_compare 59 = .ok (.ireturn, 1) := dk_172 (dk_at dksX4_compare_2 11 rfl rfl)
abbrev cX4_relation : ByteArray := prog_18_method_96_code
def yX4_relation : MethodName := ⟨RX4, "relation", "(II)I"⟩
def dkwX4_relation_1 : List UInt8 := [42, 28, 27, 182, 0, 188, 153, 0, 7, 4, 167, 0, 4, 6, 172]
abbrev dktX4_relation_1 : List UInt8 := dkwX4_relation_1 ++ []
def dkwX4_relation_0 : List UInt8 := [42, 27, 28, 182, 0, 188, 153, 0, 18, 42, 28, 27, 182, 0, 188, 153, 0, 7, 3, 167, 0, 4, 5, 172]
abbrev dktX4_relation_0 : List UInt8 := dkwX4_relation_0 ++ dktX4_relation_1
theorem dksX4_relation_0 : cX4_relation.data.toList.drop 0 = dktX4_relation_0 := by decide +kernel
theorem dksX4_relation_1 : cX4_relation.data.toList.drop 24 = dktX4_relation_1 := dk_seg dksX4_relation_0 24 rfl rfl
theorem dX4_relation_0 : decode cX4_relation 0 = .ok (.aload_n 0, 1) := dk_42 (dk_at dksX4_relation_0 0 rfl rfl)
theorem dX4_relation_1 : decode cX4_relation 1 = .ok (.iload_n 1, 1) := dk_27 (dk_at dksX4_relation_0 1 rfl rfl)
theorem dX4_relation_2 : decode cX4_relation 2 = .ok (.iload_n 2, 1) := dk_28 (dk_at dksX4_relation_0 2 rfl rfl)
theorem dX4_relation_3 : decode cX4_relation 3 = .ok (.invokevirtual 188, 3) := dk_182 0 188 (dk_at dksX4_relation_0 3 rfl rfl)
theorem dX4_relation_6 : decode cX4_relation 6 = .ok (.ifCond .eq 18, 3) := dk_153 0 18 (dk_at dksX4_relation_0 6 rfl rfl)
theorem dX4_relation_9 : decode cX4_relation 9 = .ok (.aload_n 0, 1) := dk_42 (dk_at dksX4_relation_0 9 rfl rfl)
theorem dX4_relation_10 : decode cX4_relation 10 = .ok (.iload_n 2, 1) := dk_28 (dk_at dksX4_relation_0 10 rfl rfl)
theorem dX4_relation_11 : decode cX4_relation 11 = .ok (.iload_n 1, 1) := dk_27 (dk_at dksX4_relation_0 11 rfl rfl)
theorem dX4_relation_12 : decode cX4_relation 12 = .ok (.invokevirtual 188, 3) := dk_182 0 188 (dk_at dksX4_relation_0 12 rfl rfl)
theorem dX4_relation_15 : decode cX4_relation 15 = .ok (.ifCond .eq 7, 3) := dk_153 0 7 (dk_at dksX4_relation_0 15 rfl rfl)
theorem dX4_relation_18 : decode cX4_relation 18 = .ok (.iconst 0, 1) := dk_3 (dk_at dksX4_relation_0 18 rfl rfl)
theorem dX4_relation_19 : decode cX4_relation 19 = .ok (.goto 4, 3) := dk_167 0 4 (dk_at dksX4_relation_0 19 rfl rfl)
theorem dX4_relation_22 : decode cX4_relation 22 = .ok (.iconst 2, 1) := dk_5 (dk_at dksX4_relation_0 22 rfl rfl)
theorem dX4_relation_23 : decode cX4_relation 23 = .ok (.ireturn, 1) := dk_172 (dk_at dksX4_relation_0 23 rfl rfl)
theorem dX4_relation_24 : decode cX4_relation 24 = .ok (.aload_n 0, 1) := dk_42 (dk_at dksX4_relation_1 0 rfl rfl)
theorem dX4_relation_25 : decode cX4_relation 25 = .ok (.iload_n 2, 1) := dk_28 (dk_at dksX4_relation_1 1 rfl rfl)
theorem dX4_relation_26 : decode cX4_relation 26 = .ok (.iload_n 1, 1) := dk_27 (dk_at dksX4_relation_1 2 rfl rfl)
theorem dX4_relation_27 : decode cX4_relation 27 = .ok (.invokevirtual 188, 3) := dk_182 0 188 (dk_at dksX4_relation_1 3 rfl rfl)
theorem dX4_relation_30 : decode cX4_relation 30 = .ok (.ifCond .eq 7, 3) := dk_153 0 7 (dk_at dksX4_relation_1 6 rfl rfl)
theorem dX4_relation_33 : decode cX4_relation 33 = .ok (.iconst 1, 1) := dk_4 (dk_at dksX4_relation_1 9 rfl rfl)
theorem dX4_relation_34 : decode cX4_relation 34 = .ok (.goto 4, 3) := dk_167 0 4 (dk_at dksX4_relation_1 10 rfl rfl)
theorem dX4_relation_37 : decode cX4_relation 37 = .ok (.iconst 3, 1) := dk_6 (dk_at dksX4_relation_1 13 rfl rfl)
theorem dX4_relation_38 : decode cX4_relation 38 = .ok (.ireturn, 1) := dk_172 (dk_at dksX4_relation_1 14 rfl rfl)
abbrev cX4_outcome : ByteArray := prog_18_method_98_code
def yX4_outcome : MethodName := ⟨RX4, "outcome", "(I)I"⟩
def dkwX4_outcome_1 : List UInt8 := [180, 0, 9, 16, 65, 27, 104, 3, 182, 1, 17, 3, 182, 1, 184, 172]
abbrev dktX4_outcome_1 : List UInt8 := dkwX4_outcome_1 ++ []
def dkwX4_outcome_0 : List UInt8 := [42, 3, 181, 0, 146, 27, 184, 1, 34, 154, 0, 7, 19, 1, 37, 172, 42, 182, 1, 4, 42, 42, 42]
abbrev dktX4_outcome_0 : List UInt8 := dkwX4_outcome_0 ++ dktX4_outcome_1
theorem dksX4_outcome_0 : cX4_outcome.data.toList.drop 0 = dktX4_outcome_0 := by decide +kernel
theorem dksX4_outcome_1 : cX4_outcome.data.toList.drop 23 = dktX4_outcome_1 := dk_seg dksX4_outcome_0 23 rfl rfl
theorem dX4_outcome_0 : decode cX4_outcome 0 = .ok (.aload_n 0, 1) := dk_42 (dk_at dksX4_outcome_0 0 rfl rfl)
theorem dX4_outcome_1 : decode cX4_outcome 1 = .ok (.iconst 0, 1) := dk_3 (dk_at dksX4_outcome_0 1 rfl rfl)
theorem dX4_outcome_2 : decode cX4_outcome 2 = .ok (.putfield 146, 3) := dk_181 0 146 (dk_at dksX4_outcome_0 2 rfl rfl)
theorem dX4_outcome_5 : decode cX4_outcome 5 = .ok (.iload_n 1, 1) := dk_27 (dk_at dksX4_outcome_0 5 rfl rfl)
theorem dX4_outcome_6 : decode cX4_outcome 6 = .ok (.invokestatic 290, 3) := dk_184 1 34 (dk_at dksX4_outcome_0 6 rfl rfl)
theorem dX4_outcome_9 : decode cX4_outcome 9 = .ok (.ifCond .ne 7, 3) := dk_154 0 7 (dk_at dksX4_outcome_0 9 rfl rfl)
theorem dX4_outcome_12 : decode cX4_outcome 12 = .ok (.ldc_w 293, 3) := dk_19 1 37 (dk_at dksX4_outcome_0 12 rfl rfl)
theorem dX4_outcome_15 : decode cX4_outcome 15 = .ok (.ireturn, 1) := dk_172 (dk_at dksX4_outcome_0 15 rfl rfl)
theorem dX4_outcome_16 : decode cX4_outcome 16 = .ok (.aload_n 0, 1) := dk_42 (dk_at dksX4_outcome_0 16 rfl rfl)
theorem dX4_outcome_17 : decode cX4_outcome 17 = .ok (.invokevirtual 260, 3) := dk_182 1 4 (dk_at dksX4_outcome_0 17 rfl rfl)
theorem dX4_outcome_20 : decode cX4_outcome 20 = .ok (.aload_n 0, 1) := dk_42 (dk_at dksX4_outcome_0 20 rfl rfl)
theorem dX4_outcome_21 : decode cX4_outcome 21 = .ok (.aload_n 0, 1) := dk_42 (dk_at dksX4_outcome_0 21 rfl rfl)
theorem dX4_outcome_22 : decode cX4_outcome 22 = .ok (.aload_n 0, 1) := dk_42 (dk_at dksX4_outcome_0 22 rfl rfl)
theorem dX4_outcome_23 : decode cX4_outcome 23 = .ok (.getfield 9, 3) := dk_180 0 9 (dk_at dksX4_outcome_1 0 rfl rfl)
theorem dX4_outcome_26 : decode cX4_outcome 26 = .ok (.bipush 65, 2) := dk_16 65 (dk_at dksX4_outcome_1 3 rfl rfl)
theorem dX4_outcome_28 : decode cX4_outcome 28 = .ok (.iload_n 1, 1) := dk_27 (dk_at dksX4_outcome_1 5 rfl rfl)
theorem dX4_outcome_29 : decode cX4_outcome 29 = .ok (.imul, 1) := dk_104 (dk_at dksX4_outcome_1 6 rfl rfl)
theorem dX4_outcome_30 : decode cX4_outcome 30 = .ok (.iconst 0, 1) := dk_3 (dk_at dksX4_outcome_1 7 rfl rfl)
theorem dX4_outcome_31 : decode cX4_outcome 31 = .ok (.invokevirtual 273, 3) := dk_182 1 17 (dk_at dksX4_outcome_1 8 rfl rfl)
theorem dX4_outcome_34 : decode cX4_outcome 34 = .ok (.iconst 0, 1) := dk_3 (dk_at dksX4_outcome_1 11 rfl rfl)
theorem dX4_outcome_35 : decode cX4_outcome 35 = .ok (.invokevirtual 440, 3) := dk_182 1 184 (dk_at dksX4_outcome_1 12 rfl rfl)
theorem dX4_outcome_38 : decode cX4_outcome 38 = .ok (.ireturn, 1) := dk_172 (dk_at dksX4_outcome_1 15 rfl rfl)
abbrev cX4_winningMove : ByteArray := prog_18_method_99_code
def yX4_winningMove : MethodName := ⟨RX4, "winningMove", "(II)I"⟩
def dkwX4_winningMove_5 : List UInt8 := [132, 5, 1, 167, 255, 193, 18, 195, 172]
abbrev dktX4_winningMove_5 : List UInt8 := dkwX4_winningMove_5 ++ []
def dkwX4_winningMove_4 : List UInt8 := [167, 0, 18, 42, 42, 180, 0, 70, 21, 5, 46, 3, 182, 0, 188, 153, 0, 6, 21, 4, 172, 132, 4, 1]
abbrev dktX4_winningMove_4 : List UInt8 := dkwX4_winningMove_4 ++ dktX4_winningMove_5
def dkwX4_winningMove_3 : List UInt8 := [160, 0, 46, 28, 154, 0, 21, 42, 3, 42, 180, 0, 70, 21, 5, 46, 182, 0, 188, 153, 0, 24]
abbrev dktX4_winningMove_3 : List UInt8 := dkwX4_winningMove_3 ++ dktX4_winningMove_4
def dkwX4_winningMove_2 : List UInt8 := [182, 1, 60, 62, 3, 54, 4, 3, 54, 5, 21, 5, 16, 32, 162, 0, 62, 29, 21, 5, 122, 4, 126, 4]
abbrev dktX4_winningMove_2 : List UInt8 := dkwX4_winningMove_2 ++ dktX4_winningMove_3
def dkwX4_winningMove_1 : List UInt8 := [172, 42, 182, 1, 4, 42, 42, 180, 0, 9, 16, 65, 27, 104, 3, 182, 1, 17, 87, 42, 27, 28]
abbrev dktX4_winningMove_1 : List UInt8 := dkwX4_winningMove_1 ++ dktX4_winningMove_2
def dkwX4_winningMove_0 : List UInt8 := [42, 3, 181, 0, 146, 27, 184, 1, 34, 153, 0, 12, 28, 3, 4, 184, 0, 153, 154, 0, 7, 19, 1, 37]
abbrev dktX4_winningMove_0 : List UInt8 := dkwX4_winningMove_0 ++ dktX4_winningMove_1
theorem dksX4_winningMove_0 : cX4_winningMove.data.toList.drop 0 = dktX4_winningMove_0 := by decide +kernel
theorem dksX4_winningMove_1 : cX4_winningMove.data.toList.drop 24 = dktX4_winningMove_1 := dk_seg dksX4_winningMove_0 24 rfl rfl
theorem dksX4_winningMove_2 : cX4_winningMove.data.toList.drop 46 = dktX4_winningMove_2 := dk_seg dksX4_winningMove_1 22 rfl rfl
theorem dksX4_winningMove_3 : cX4_winningMove.data.toList.drop 70 = dktX4_winningMove_3 := dk_seg dksX4_winningMove_2 24 rfl rfl
theorem dksX4_winningMove_4 : cX4_winningMove.data.toList.drop 92 = dktX4_winningMove_4 := dk_seg dksX4_winningMove_3 22 rfl rfl
theorem dksX4_winningMove_5 : cX4_winningMove.data.toList.drop 116 = dktX4_winningMove_5 := dk_seg dksX4_winningMove_4 24 rfl rfl
theorem dX4_winningMove_0 : decode cX4_winningMove 0 = .ok (.aload_n 0, 1) := dk_42 (dk_at dksX4_winningMove_0 0 rfl rfl)
theorem dX4_winningMove_1 : decode cX4_winningMove 1 = .ok (.iconst 0, 1) := dk_3 (dk_at dksX4_winningMove_0 1 rfl rfl)
theorem dX4_winningMove_2 : decode cX4_winningMove 2 = .ok (.putfield 146, 3) := dk_181 0 146 (dk_at dksX4_winningMove_0 2 rfl rfl)
theorem dX4_winningMove_5 : decode cX4_winningMove 5 = .ok (.iload_n 1, 1) := dk_27 (dk_at dksX4_winningMove_0 5 rfl rfl)
theorem dX4_winningMove_6 : decode cX4_winningMove 6 = .ok (.invokestatic 290, 3) := dk_184 1 34 (dk_at dksX4_winningMove_0 6 rfl rfl)
theorem dX4_winningMove_9 : decode cX4_winningMove 9 = .ok (.ifCond .eq 12, 3) := dk_153 0 12 (dk_at dksX4_winningMove_0 9 rfl rfl)
theorem dX4_winningMove_12 : decode cX4_winningMove 12 = .ok (.iload_n 2, 1) := dk_28 (dk_at dksX4_winningMove_0 12 rfl rfl)
theorem dX4_winningMove_13 : decode cX4_winningMove 13 = .ok (.iconst 0, 1) := dk_3 (dk_at dksX4_winningMove_0 13 rfl rfl)
theorem dX4_winningMove_14 : decode cX4_winningMove 14 = .ok (.iconst 1, 1) := dk_4 (dk_at dksX4_winningMove_0 14 rfl rfl)
theorem dX4_winningMove_15 : decode cX4_winningMove 15 = .ok (.invokestatic 153, 3) := dk_184 0 153 (dk_at dksX4_winningMove_0 15 rfl rfl)
theorem dX4_winningMove_18 : decode cX4_winningMove 18 = .ok (.ifCond .ne 7, 3) := dk_154 0 7 (dk_at dksX4_winningMove_0 18 rfl rfl)
theorem dX4_winningMove_21 : decode cX4_winningMove 21 = .ok (.ldc_w 293, 3) := dk_19 1 37 (dk_at dksX4_winningMove_0 21 rfl rfl)
theorem dX4_winningMove_24 : decode cX4_winningMove 24 = .ok (.ireturn, 1) := dk_172 (dk_at dksX4_winningMove_1 0 rfl rfl)
theorem dX4_winningMove_25 : decode cX4_winningMove 25 = .ok (.aload_n 0, 1) := dk_42 (dk_at dksX4_winningMove_1 1 rfl rfl)
theorem dX4_winningMove_26 : decode cX4_winningMove 26 = .ok (.invokevirtual 260, 3) := dk_182 1 4 (dk_at dksX4_winningMove_1 2 rfl rfl)
theorem dX4_winningMove_29 : decode cX4_winningMove 29 = .ok (.aload_n 0, 1) := dk_42 (dk_at dksX4_winningMove_1 5 rfl rfl)
theorem dX4_winningMove_30 : decode cX4_winningMove 30 = .ok (.aload_n 0, 1) := dk_42 (dk_at dksX4_winningMove_1 6 rfl rfl)
theorem dX4_winningMove_31 : decode cX4_winningMove 31 = .ok (.getfield 9, 3) := dk_180 0 9 (dk_at dksX4_winningMove_1 7 rfl rfl)
theorem dX4_winningMove_34 : decode cX4_winningMove 34 = .ok (.bipush 65, 2) := dk_16 65 (dk_at dksX4_winningMove_1 10 rfl rfl)
theorem dX4_winningMove_36 : decode cX4_winningMove 36 = .ok (.iload_n 1, 1) := dk_27 (dk_at dksX4_winningMove_1 12 rfl rfl)
theorem dX4_winningMove_37 : decode cX4_winningMove 37 = .ok (.imul, 1) := dk_104 (dk_at dksX4_winningMove_1 13 rfl rfl)
theorem dX4_winningMove_38 : decode cX4_winningMove 38 = .ok (.iconst 0, 1) := dk_3 (dk_at dksX4_winningMove_1 14 rfl rfl)
theorem dX4_winningMove_39 : decode cX4_winningMove 39 = .ok (.invokevirtual 273, 3) := dk_182 1 17 (dk_at dksX4_winningMove_1 15 rfl rfl)
theorem dX4_winningMove_42 : decode cX4_winningMove 42 = .ok (.pop, 1) := dk_87 (dk_at dksX4_winningMove_1 18 rfl rfl)
theorem dX4_winningMove_43 : decode cX4_winningMove 43 = .ok (.aload_n 0, 1) := dk_42 (dk_at dksX4_winningMove_1 19 rfl rfl)
theorem dX4_winningMove_44 : decode cX4_winningMove 44 = .ok (.iload_n 1, 1) := dk_27 (dk_at dksX4_winningMove_1 20 rfl rfl)
theorem dX4_winningMove_45 : decode cX4_winningMove 45 = .ok (.iload_n 2, 1) := dk_28 (dk_at dksX4_winningMove_1 21 rfl rfl)
theorem dX4_winningMove_46 : decode cX4_winningMove 46 = .ok (.invokevirtual 316, 3) := dk_182 1 60 (dk_at dksX4_winningMove_2 0 rfl rfl)
theorem dX4_winningMove_49 : decode cX4_winningMove 49 = .ok (.istore_n 3, 1) := dk_62 (dk_at dksX4_winningMove_2 3 rfl rfl)
theorem dX4_winningMove_50 : decode cX4_winningMove 50 = .ok (.iconst 0, 1) := dk_3 (dk_at dksX4_winningMove_2 4 rfl rfl)
theorem dX4_winningMove_51 : decode cX4_winningMove 51 = .ok (.istore 4, 2) := dk_54 4 (dk_at dksX4_winningMove_2 5 rfl rfl)
theorem dX4_winningMove_53 : decode cX4_winningMove 53 = .ok (.iconst 0, 1) := dk_3 (dk_at dksX4_winningMove_2 7 rfl rfl)
theorem dX4_winningMove_54 : decode cX4_winningMove 54 = .ok (.istore 5, 2) := dk_54 5 (dk_at dksX4_winningMove_2 8 rfl rfl)
theorem dX4_winningMove_56 : decode cX4_winningMove 56 = .ok (.iload 5, 2) := dk_21 5 (dk_at dksX4_winningMove_2 10 rfl rfl)
theorem dX4_winningMove_58 : decode cX4_winningMove 58 = .ok (.bipush 32, 2) := dk_16 32 (dk_at dksX4_winningMove_2 12 rfl rfl)
theorem dX4_winningMove_60 : decode cX4_winningMove 60 = .ok (.if_icmp .ge 62, 3) := dk_162 0 62 (dk_at dksX4_winningMove_2 14 rfl rfl)
theorem dX4_winningMove_63 : decode cX4_winningMove 63 = .ok (.iload_n 3, 1) := dk_29 (dk_at dksX4_winningMove_2 17 rfl rfl)
theorem dX4_winningMove_64 : decode cX4_winningMove 64 = .ok (.iload 5, 2) := dk_21 5 (dk_at dksX4_winningMove_2 18 rfl rfl)
theorem dX4_winningMove_66 : decode cX4_winningMove 66 = .ok (.ishr, 1) := dk_122 (dk_at dksX4_winningMove_2 20 rfl rfl)
theorem dX4_winningMove_67 : decode cX4_winningMove 67 = .ok (.iconst 1, 1) := dk_4 (dk_at dksX4_winningMove_2 21 rfl rfl)
theorem dX4_winningMove_68 : decode cX4_winningMove 68 = .ok (.iand, 1) := dk_126 (dk_at dksX4_winningMove_2 22 rfl rfl)
theorem dX4_winningMove_69 : decode cX4_winningMove 69 = .ok (.iconst 1, 1) := dk_4 (dk_at dksX4_winningMove_2 23 rfl rfl)
theorem dX4_winningMove_70 : decode cX4_winningMove 70 = .ok (.if_icmp .ne 46, 3) := dk_160 0 46 (dk_at dksX4_winningMove_3 0 rfl rfl)
theorem dX4_winningMove_73 : decode cX4_winningMove 73 = .ok (.iload_n 2, 1) := dk_28 (dk_at dksX4_winningMove_3 3 rfl rfl)
theorem dX4_winningMove_74 : decode cX4_winningMove 74 = .ok (.ifCond .ne 21, 3) := dk_154 0 21 (dk_at dksX4_winningMove_3 4 rfl rfl)
theorem dX4_winningMove_77 : decode cX4_winningMove 77 = .ok (.aload_n 0, 1) := dk_42 (dk_at dksX4_winningMove_3 7 rfl rfl)
theorem dX4_winningMove_78 : decode cX4_winningMove 78 = .ok (.iconst 0, 1) := dk_3 (dk_at dksX4_winningMove_3 8 rfl rfl)
theorem dX4_winningMove_79 : decode cX4_winningMove 79 = .ok (.aload_n 0, 1) := dk_42 (dk_at dksX4_winningMove_3 9 rfl rfl)
theorem dX4_winningMove_80 : decode cX4_winningMove 80 = .ok (.getfield 70, 3) := dk_180 0 70 (dk_at dksX4_winningMove_3 10 rfl rfl)
theorem dX4_winningMove_83 : decode cX4_winningMove 83 = .ok (.iload 5, 2) := dk_21 5 (dk_at dksX4_winningMove_3 13 rfl rfl)
theorem dX4_winningMove_85 : decode cX4_winningMove 85 = .ok (.iaload, 1) := dk_46 (dk_at dksX4_winningMove_3 15 rfl rfl)
theorem dX4_winningMove_86 : decode cX4_winningMove 86 = .ok (.invokevirtual 188, 3) := dk_182 0 188 (dk_at dksX4_winningMove_3 16 rfl rfl)
theorem dX4_winningMove_89 : decode cX4_winningMove 89 = .ok (.ifCond .eq 24, 3) := dk_153 0 24 (dk_at dksX4_winningMove_3 19 rfl rfl)
theorem dX4_winningMove_92 : decode cX4_winningMove 92 = .ok (.goto 18, 3) := dk_167 0 18 (dk_at dksX4_winningMove_4 0 rfl rfl)
theorem dX4_winningMove_95 : decode cX4_winningMove 95 = .ok (.aload_n 0, 1) := dk_42 (dk_at dksX4_winningMove_4 3 rfl rfl)
theorem dX4_winningMove_96 : decode cX4_winningMove 96 = .ok (.aload_n 0, 1) := dk_42 (dk_at dksX4_winningMove_4 4 rfl rfl)
theorem dX4_winningMove_97 : decode cX4_winningMove 97 = .ok (.getfield 70, 3) := dk_180 0 70 (dk_at dksX4_winningMove_4 5 rfl rfl)
theorem dX4_winningMove_100 : decode cX4_winningMove 100 = .ok (.iload 5, 2) := dk_21 5 (dk_at dksX4_winningMove_4 8 rfl rfl)
theorem dX4_winningMove_102 : decode cX4_winningMove 102 = .ok (.iaload, 1) := dk_46 (dk_at dksX4_winningMove_4 10 rfl rfl)
theorem dX4_winningMove_103 : decode cX4_winningMove 103 = .ok (.iconst 0, 1) := dk_3 (dk_at dksX4_winningMove_4 11 rfl rfl)
theorem dX4_winningMove_104 : decode cX4_winningMove 104 = .ok (.invokevirtual 188, 3) := dk_182 0 188 (dk_at dksX4_winningMove_4 12 rfl rfl)
theorem dX4_winningMove_107 : decode cX4_winningMove 107 = .ok (.ifCond .eq 6, 3) := dk_153 0 6 (dk_at dksX4_winningMove_4 15 rfl rfl)
theorem dX4_winningMove_110 : decode cX4_winningMove 110 = .ok (.iload 4, 2) := dk_21 4 (dk_at dksX4_winningMove_4 18 rfl rfl)
theorem dX4_winningMove_112 : decode cX4_winningMove 112 = .ok (.ireturn, 1) := dk_172 (dk_at dksX4_winningMove_4 20 rfl rfl)
theorem dX4_winningMove_113 : decode cX4_winningMove 113 = .ok (.iinc 4 1, 3) := dk_132 4 1 (dk_at dksX4_winningMove_4 21 rfl rfl)
theorem dX4_winningMove_116 : decode cX4_winningMove 116 = .ok (.iinc 5 1, 3) := dk_132 5 1 (dk_at dksX4_winningMove_5 0 rfl rfl)
theorem dX4_winningMove_119 : decode cX4_winningMove 119 = .ok (.goto (-63), 3) := dk_167 255 193 (dk_at dksX4_winningMove_5 3 rfl rfl)
theorem dX4_winningMove_122 : decode cX4_winningMove 122 = .ok (.ldc 195, 2) := dk_18 195 (dk_at dksX4_winningMove_5 6 rfl rfl)
theorem dX4_winningMove_124 : decode cX4_winningMove 124 = .ok (.ireturn, 1) := dk_172 (dk_at dksX4_winningMove_5 8 rfl rfl)
abbrev cX4_birthday : ByteArray := prog_18_method_100_code
def yX4_birthday : MethodName := ⟨RX4, "birthday", "(I)I"⟩
def dkwX4_birthday_1 : List UInt8 := [42, 42, 180, 0, 9, 16, 65, 27, 104, 3, 182, 1, 17, 46, 172]
abbrev dktX4_birthday_1 : List UInt8 := dkwX4_birthday_1 ++ []
def dkwX4_birthday_0 : List UInt8 := [42, 3, 181, 0, 146, 27, 184, 1, 34, 154, 0, 7, 19, 1, 37, 172, 42, 182, 1, 4, 42, 180, 0, 40]
abbrev dktX4_birthday_0 : List UInt8 := dkwX4_birthday_0 ++ dktX4_birthday_1
theorem dksX4_birthday_0 : cX4_birthday.data.toList.drop 0 = dktX4_birthday_0 := by decide +kernel
theorem dksX4_birthday_1 : cX4_birthday.data.toList.drop 24 = dktX4_birthday_1 := dk_seg dksX4_birthday_0 24 rfl rfl
theorem dX4_birthday_0 : decode cX4_birthday 0 = .ok (.aload_n 0, 1) := dk_42 (dk_at dksX4_birthday_0 0 rfl rfl)
theorem dX4_birthday_1 : decode cX4_birthday 1 = .ok (.iconst 0, 1) := dk_3 (dk_at dksX4_birthday_0 1 rfl rfl)
theorem dX4_birthday_2 : decode cX4_birthday 2 = .ok (.putfield 146, 3) := dk_181 0 146 (dk_at dksX4_birthday_0 2 rfl rfl)
theorem dX4_birthday_5 : decode cX4_birthday 5 = .ok (.iload_n 1, 1) := dk_27 (dk_at dksX4_birthday_0 5 rfl rfl)
theorem dX4_birthday_6 : decode cX4_birthday 6 = .ok (.invokestatic 290, 3) := dk_184 1 34 (dk_at dksX4_birthday_0 6 rfl rfl)
theorem dX4_birthday_9 : decode cX4_birthday 9 = .ok (.ifCond .ne 7, 3) := dk_154 0 7 (dk_at dksX4_birthday_0 9 rfl rfl)
theorem dX4_birthday_12 : decode cX4_birthday 12 = .ok (.ldc_w 293, 3) := dk_19 1 37 (dk_at dksX4_birthday_0 12 rfl rfl)
theorem dX4_birthday_15 : decode cX4_birthday 15 = .ok (.ireturn, 1) := dk_172 (dk_at dksX4_birthday_0 15 rfl rfl)
theorem dX4_birthday_16 : decode cX4_birthday 16 = .ok (.aload_n 0, 1) := dk_42 (dk_at dksX4_birthday_0 16 rfl rfl)
theorem dX4_birthday_17 : decode cX4_birthday 17 = .ok (.invokevirtual 260, 3) := dk_182 1 4 (dk_at dksX4_birthday_0 17 rfl rfl)
theorem dX4_birthday_20 : decode cX4_birthday 20 = .ok (.aload_n 0, 1) := dk_42 (dk_at dksX4_birthday_0 20 rfl rfl)
theorem dX4_birthday_21 : decode cX4_birthday 21 = .ok (.getfield 40, 3) := dk_180 0 40 (dk_at dksX4_birthday_0 21 rfl rfl)
theorem dX4_birthday_24 : decode cX4_birthday 24 = .ok (.aload_n 0, 1) := dk_42 (dk_at dksX4_birthday_1 0 rfl rfl)
theorem dX4_birthday_25 : decode cX4_birthday 25 = .ok (.aload_n 0, 1) := dk_42 (dk_at dksX4_birthday_1 1 rfl rfl)
theorem dX4_birthday_26 : decode cX4_birthday 26 = .ok (.getfield 9, 3) := dk_180 0 9 (dk_at dksX4_birthday_1 2 rfl rfl)
theorem dX4_birthday_29 : decode cX4_birthday 29 = .ok (.bipush 65, 2) := dk_16 65 (dk_at dksX4_birthday_1 5 rfl rfl)
theorem dX4_birthday_31 : decode cX4_birthday 31 = .ok (.iload_n 1, 1) := dk_27 (dk_at dksX4_birthday_1 7 rfl rfl)
theorem dX4_birthday_32 : decode cX4_birthday 32 = .ok (.imul, 1) := dk_104 (dk_at dksX4_birthday_1 8 rfl rfl)
theorem dX4_birthday_33 : decode cX4_birthday 33 = .ok (.iconst 0, 1) := dk_3 (dk_at dksX4_birthday_1 9 rfl rfl)
theorem dX4_birthday_34 : decode cX4_birthday 34 = .ok (.invokevirtual 273, 3) := dk_182 1 17 (dk_at dksX4_birthday_1 10 rfl rfl)
theorem dX4_birthday_37 : decode cX4_birthday 37 = .ok (.iaload, 1) := dk_46 (dk_at dksX4_birthday_1 13 rfl rfl)
theorem dX4_birthday_38 : decode cX4_birthday 38 = .ok (.ireturn, 1) := dk_172 (dk_at dksX4_birthday_1 14 rfl rfl)
abbrev cX4_positions : ByteArray := prog_18_method_101_code
def yX4_positions : MethodName := ⟨RX4, "positions", "(I)I"⟩
def dkwX4_positions_1 : List UInt8 := [19, 1, 37, 172]
abbrev dktX4_positions_1 : List UInt8 := dkwX4_positions_1 ++ []
def dkwX4_positions_0 : List UInt8 := [42, 3, 181, 0, 146, 27, 184, 1, 34, 153, 0, 15, 42, 180, 0, 9, 16, 65, 27, 104, 46, 167, 0, 6]
abbrev dktX4_positions_0 : List UInt8 := dkwX4_positions_0 ++ dktX4_positions_1
theorem dksX4_positions_0 : cX4_positions.data.toList.drop 0 = dktX4_positions_0 := by decide +kernel
theorem dksX4_positions_1 : cX4_positions.data.toList.drop 24 = dktX4_positions_1 := dk_seg dksX4_positions_0 24 rfl rfl
theorem dX4_positions_0 : decode cX4_positions 0 = .ok (.aload_n 0, 1) := dk_42 (dk_at dksX4_positions_0 0 rfl rfl)
theorem dX4_positions_1 : decode cX4_positions 1 = .ok (.iconst 0, 1) := dk_3 (dk_at dksX4_positions_0 1 rfl rfl)
theorem dX4_positions_2 : decode cX4_positions 2 = .ok (.putfield 146, 3) := dk_181 0 146 (dk_at dksX4_positions_0 2 rfl rfl)
theorem dX4_positions_5 : decode cX4_positions 5 = .ok (.iload_n 1, 1) := dk_27 (dk_at dksX4_positions_0 5 rfl rfl)
theorem dX4_positions_6 : decode cX4_positions 6 = .ok (.invokestatic 290, 3) := dk_184 1 34 (dk_at dksX4_positions_0 6 rfl rfl)
theorem dX4_positions_9 : decode cX4_positions 9 = .ok (.ifCond .eq 15, 3) := dk_153 0 15 (dk_at dksX4_positions_0 9 rfl rfl)
theorem dX4_positions_12 : decode cX4_positions 12 = .ok (.aload_n 0, 1) := dk_42 (dk_at dksX4_positions_0 12 rfl rfl)
theorem dX4_positions_13 : decode cX4_positions 13 = .ok (.getfield 9, 3) := dk_180 0 9 (dk_at dksX4_positions_0 13 rfl rfl)
theorem dX4_positions_16 : decode cX4_positions 16 = .ok (.bipush 65, 2) := dk_16 65 (dk_at dksX4_positions_0 16 rfl rfl)
theorem dX4_positions_18 : decode cX4_positions 18 = .ok (.iload_n 1, 1) := dk_27 (dk_at dksX4_positions_0 18 rfl rfl)
theorem dX4_positions_19 : decode cX4_positions 19 = .ok (.imul, 1) := dk_104 (dk_at dksX4_positions_0 19 rfl rfl)
theorem dX4_positions_20 : decode cX4_positions 20 = .ok (.iaload, 1) := dk_46 (dk_at dksX4_positions_0 20 rfl rfl)
theorem dX4_positions_21 : decode cX4_positions 21 = .ok (.goto 6, 3) := dk_167 0 6 (dk_at dksX4_positions_0 21 rfl rfl)
theorem dX4_positions_24 : decode cX4_positions 24 = .ok (.ldc_w 293, 3) := dk_19 1 37 (dk_at dksX4_positions_1 0 rfl rfl)
theorem dX4_positions_27 : decode cX4_positions 27 = .ok (.ireturn, 1) := dk_172 (dk_at dksX4_positions_1 3 rfl rfl)
abbrev cX4_options : ByteArray := prog_18_method_102_code
def yX4_options : MethodName := ⟨RX4, "options", "(II)I"⟩
def dkwX4_options_1 : List UInt8 := [182, 1, 60, 184, 1, 187, 167, 0, 6, 19, 1, 37, 172]
abbrev dktX4_options_1 : List UInt8 := dkwX4_options_1 ++ []
def dkwX4_options_0 : List UInt8 := [42, 3, 181, 0, 146, 27, 184, 1, 34, 153, 0, 24, 28, 3, 4, 184, 0, 153, 153, 0, 15, 42, 27, 28]
abbrev dktX4_options_0 : List UInt8 := dkwX4_options_0 ++ dktX4_options_1
theorem dksX4_options_0 : cX4_options.data.toList.drop 0 = dktX4_options_0 := by decide +kernel
theorem dksX4_options_1 : cX4_options.data.toList.drop 24 = dktX4_options_1 := dk_seg dksX4_options_0 24 rfl rfl
theorem dX4_options_0 : decode cX4_options 0 = .ok (.aload_n 0, 1) := dk_42 (dk_at dksX4_options_0 0 rfl rfl)
theorem dX4_options_1 : decode cX4_options 1 = .ok (.iconst 0, 1) := dk_3 (dk_at dksX4_options_0 1 rfl rfl)
theorem dX4_options_2 : decode cX4_options 2 = .ok (.putfield 146, 3) := dk_181 0 146 (dk_at dksX4_options_0 2 rfl rfl)
theorem dX4_options_5 : decode cX4_options 5 = .ok (.iload_n 1, 1) := dk_27 (dk_at dksX4_options_0 5 rfl rfl)
theorem dX4_options_6 : decode cX4_options 6 = .ok (.invokestatic 290, 3) := dk_184 1 34 (dk_at dksX4_options_0 6 rfl rfl)
theorem dX4_options_9 : decode cX4_options 9 = .ok (.ifCond .eq 24, 3) := dk_153 0 24 (dk_at dksX4_options_0 9 rfl rfl)
theorem dX4_options_12 : decode cX4_options 12 = .ok (.iload_n 2, 1) := dk_28 (dk_at dksX4_options_0 12 rfl rfl)
theorem dX4_options_13 : decode cX4_options 13 = .ok (.iconst 0, 1) := dk_3 (dk_at dksX4_options_0 13 rfl rfl)
theorem dX4_options_14 : decode cX4_options 14 = .ok (.iconst 1, 1) := dk_4 (dk_at dksX4_options_0 14 rfl rfl)
theorem dX4_options_15 : decode cX4_options 15 = .ok (.invokestatic 153, 3) := dk_184 0 153 (dk_at dksX4_options_0 15 rfl rfl)
theorem dX4_options_18 : decode cX4_options 18 = .ok (.ifCond .eq 15, 3) := dk_153 0 15 (dk_at dksX4_options_0 18 rfl rfl)
theorem dX4_options_21 : decode cX4_options 21 = .ok (.aload_n 0, 1) := dk_42 (dk_at dksX4_options_0 21 rfl rfl)
theorem dX4_options_22 : decode cX4_options 22 = .ok (.iload_n 1, 1) := dk_27 (dk_at dksX4_options_0 22 rfl rfl)
theorem dX4_options_23 : decode cX4_options 23 = .ok (.iload_n 2, 1) := dk_28 (dk_at dksX4_options_0 23 rfl rfl)
theorem dX4_options_24 : decode cX4_options 24 = .ok (.invokevirtual 316, 3) := dk_182 1 60 (dk_at dksX4_options_1 0 rfl rfl)
theorem dX4_options_27 : decode cX4_options 27 = .ok (.invokestatic 443, 3) := dk_184 1 187 (dk_at dksX4_options_1 3 rfl rfl)
theorem dX4_options_30 : decode cX4_options 30 = .ok (.goto 6, 3) := dk_167 0 6 (dk_at dksX4_options_1 6 rfl rfl)
theorem dX4_options_33 : decode cX4_options 33 = .ok (.ldc_w 293, 3) := dk_19 1 37 (dk_at dksX4_options_1 9 rfl rfl)
theorem dX4_options_36 : decode cX4_options 36 = .ok (.ireturn, 1) := dk_172 (dk_at dksX4_options_1 12 rfl rfl)
abbrev cX4_count : ByteArray := prog_18_method_58_code
def yX4_count : MethodName := ⟨RX4, "count", "(I)I"⟩
def dkwX4_count_1 : List UInt8 := [27, 172]
abbrev dktX4_count_1 : List UInt8 := dkwX4_count_1 ++ []
def dkwX4_count_0 : List UInt8 := [3, 60, 3, 61, 28, 16, 32, 162, 0, 17, 27, 26, 28, 122, 4, 126, 96, 60, 132, 2, 1, 167, 255, 239]
abbrev dktX4_count_0 : List UInt8 := dkwX4_count_0 ++ dktX4_count_1
theorem dksX4_count_0 : cX4_count.data.toList.drop 0 = dktX4_count_0 := by decide +kernel
theorem dksX4_count_1 : cX4_count.data.toList.drop 24 = dktX4_count_1 := dk_seg dksX4_count_0 24 rfl rfl
theorem dX4_count_0 : decode cX4_count 0 = .ok (.iconst 0, 1) := dk_3 (dk_at dksX4_count_0 0 rfl rfl)
theorem dX4_count_1 : decode cX4_count 1 = .ok (.istore_n 1, 1) := dk_60 (dk_at dksX4_count_0 1 rfl rfl)
theorem dX4_count_2 : decode cX4_count 2 = .ok (.iconst 0, 1) := dk_3 (dk_at dksX4_count_0 2 rfl rfl)
theorem dX4_count_3 : decode cX4_count 3 = .ok (.istore_n 2, 1) := dk_61 (dk_at dksX4_count_0 3 rfl rfl)
theorem dX4_count_4 : decode cX4_count 4 = .ok (.iload_n 2, 1) := dk_28 (dk_at dksX4_count_0 4 rfl rfl)
theorem dX4_count_5 : decode cX4_count 5 = .ok (.bipush 32, 2) := dk_16 32 (dk_at dksX4_count_0 5 rfl rfl)
theorem dX4_count_7 : decode cX4_count 7 = .ok (.if_icmp .ge 17, 3) := dk_162 0 17 (dk_at dksX4_count_0 7 rfl rfl)
theorem dX4_count_10 : decode cX4_count 10 = .ok (.iload_n 1, 1) := dk_27 (dk_at dksX4_count_0 10 rfl rfl)
theorem dX4_count_11 : decode cX4_count 11 = .ok (.iload_n 0, 1) := dk_26 (dk_at dksX4_count_0 11 rfl rfl)
theorem dX4_count_12 : decode cX4_count 12 = .ok (.iload_n 2, 1) := dk_28 (dk_at dksX4_count_0 12 rfl rfl)
theorem dX4_count_13 : decode cX4_count 13 = .ok (.ishr, 1) := dk_122 (dk_at dksX4_count_0 13 rfl rfl)
theorem dX4_count_14 : decode cX4_count 14 = .ok (.iconst 1, 1) := dk_4 (dk_at dksX4_count_0 14 rfl rfl)
theorem dX4_count_15 : decode cX4_count 15 = .ok (.iand, 1) := dk_126 (dk_at dksX4_count_0 15 rfl rfl)
theorem dX4_count_16 : decode cX4_count 16 = .ok (.iadd, 1) := dk_96 (dk_at dksX4_count_0 16 rfl rfl)
theorem dX4_count_17 : decode cX4_count 17 = .ok (.istore_n 1, 1) := dk_60 (dk_at dksX4_count_0 17 rfl rfl)
theorem dX4_count_18 : decode cX4_count 18 = .ok (.iinc 2 1, 3) := dk_132 2 1 (dk_at dksX4_count_0 18 rfl rfl)
theorem dX4_count_21 : decode cX4_count 21 = .ok (.goto (-17), 3) := dk_167 255 239 (dk_at dksX4_count_0 21 rfl rfl)
theorem dX4_count_24 : decode cX4_count 24 = .ok (.iload_n 1, 1) := dk_27 (dk_at dksX4_count_1 0 rfl rfl)
theorem dX4_count_25 : decode cX4_count 25 = .ok (.ireturn, 1) := dk_172 (dk_at dksX4_count_1 1 rfl rfl)
abbrev cX4_number : ByteArray := prog_18_method_103_code
def yX4_number : MethodName := ⟨RX4, "number", "(II)I"⟩
def dkwX4_number_1 : List UInt8 := [172, 42, 27, 182, 1, 82, 153, 0, 15, 42, 27, 182, 1, 86, 28, 184, 1, 190, 167, 0, 5, 18, 195, 172]
abbrev dktX4_number_1 : List UInt8 := dkwX4_number_1 ++ []
def dkwX4_number_0 : List UInt8 := [42, 3, 181, 0, 146, 27, 184, 1, 34, 153, 0, 12, 28, 3, 4, 184, 0, 153, 154, 0, 7, 19, 1, 37]
abbrev dktX4_number_0 : List UInt8 := dkwX4_number_0 ++ dktX4_number_1
theorem dksX4_number_0 : cX4_number.data.toList.drop 0 = dktX4_number_0 := by decide +kernel
theorem dksX4_number_1 : cX4_number.data.toList.drop 24 = dktX4_number_1 := dk_seg dksX4_number_0 24 rfl rfl
theorem dX4_number_0 : decode cX4_number 0 = .ok (.aload_n 0, 1) := dk_42 (dk_at dksX4_number_0 0 rfl rfl)
theorem dX4_number_1 : decode cX4_number 1 = .ok (.iconst 0, 1) := dk_3 (dk_at dksX4_number_0 1 rfl rfl)
theorem dX4_number_2 : decode cX4_number 2 = .ok (.putfield 146, 3) := dk_181 0 146 (dk_at dksX4_number_0 2 rfl rfl)
theorem dX4_number_5 : decode cX4_number 5 = .ok (.iload_n 1, 1) := dk_27 (dk_at dksX4_number_0 5 rfl rfl)
theorem dX4_number_6 : decode cX4_number 6 = .ok (.invokestatic 290, 3) := dk_184 1 34 (dk_at dksX4_number_0 6 rfl rfl)
theorem dX4_number_9 : decode cX4_number 9 = .ok (.ifCond .eq 12, 3) := dk_153 0 12 (dk_at dksX4_number_0 9 rfl rfl)
theorem dX4_number_12 : decode cX4_number 12 = .ok (.iload_n 2, 1) := dk_28 (dk_at dksX4_number_0 12 rfl rfl)
theorem dX4_number_13 : decode cX4_number 13 = .ok (.iconst 0, 1) := dk_3 (dk_at dksX4_number_0 13 rfl rfl)
theorem dX4_number_14 : decode cX4_number 14 = .ok (.iconst 1, 1) := dk_4 (dk_at dksX4_number_0 14 rfl rfl)
theorem dX4_number_15 : decode cX4_number 15 = .ok (.invokestatic 153, 3) := dk_184 0 153 (dk_at dksX4_number_0 15 rfl rfl)
theorem dX4_number_18 : decode cX4_number 18 = .ok (.ifCond .ne 7, 3) := dk_154 0 7 (dk_at dksX4_number_0 18 rfl rfl)
theorem dX4_number_21 : decode cX4_number 21 = .ok (.ldc_w 293, 3) := dk_19 1 37 (dk_at dksX4_number_0 21 rfl rfl)
theorem dX4_number_24 : decode cX4_number 24 = .ok (.ireturn, 1) := dk_172 (dk_at dksX4_number_1 0 rfl rfl)
theorem dX4_number_25 : decode cX4_number 25 = .ok (.aload_n 0, 1) := dk_42 (dk_at dksX4_number_1 1 rfl rfl)
theorem dX4_number_26 : decode cX4_number 26 = .ok (.iload_n 1, 1) := dk_27 (dk_at dksX4_number_1 2 rfl rfl)
theorem dX4_number_27 : decode cX4_number 27 = .ok (.invokevirtual 338, 3) := dk_182 1 82 (dk_at dksX4_number_1 3 rfl rfl)
theorem dX4_number_30 : decode cX4_number 30 = .ok (.ifCond .eq 15, 3) := dk_153 0 15 (dk_at dksX4_number_1 6 rfl rfl)
theorem dX4_number_33 : decode cX4_number 33 = .ok (.aload_n 0, 1) := dk_42 (dk_at dksX4_number_1 9 rfl rfl)
theorem dX4_number_34 : decode cX4_number 34 = .ok (.iload_n 1, 1) := dk_27 (dk_at dksX4_number_1 10 rfl rfl)
theorem dX4_number_35 : decode cX4_number 35 = .ok (.invokevirtual 342, 3) := dk_182 1 86 (dk_at dksX4_number_1 11 rfl rfl)
theorem dX4_number_38 : decode cX4_number 38 = .ok (.iload_n 2, 1) := dk_28 (dk_at dksX4_number_1 14 rfl rfl)
theorem dX4_number_39 : decode cX4_number 39 = .ok (.invokestatic 446, 3) := dk_184 1 190 (dk_at dksX4_number_1 15 rfl rfl)
theorem dX4_number_42 : decode cX4_number 42 = .ok (.goto 5, 3) := dk_167 0 5 (dk_at dksX4_number_1 18 rfl rfl)
theorem dX4_number_45 : decode cX4_number 45 = .ok (.ldc 195, 2) := dk_18 195 (dk_at dksX4_number_1 21 rfl rfl)
theorem dX4_number_47 : decode cX4_number 47 = .ok (.ireturn, 1) := dk_172 (dk_at dksX4_number_1 23 rfl rfl)
abbrev cX4_partOf : ByteArray := prog_18_method_34_code
def yX4_partOf : MethodName := ⟨RX4, "partOf", "(JI)I"⟩
def dkwX4_partOf_0 : List UInt8 := [28, 154, 0, 10, 30, 184, 0, 245, 167, 0, 7, 30, 184, 0, 249, 172]
abbrev dktX4_partOf_0 : List UInt8 := dkwX4_partOf_0 ++ []
theorem dksX4_partOf_0 : cX4_partOf.data.toList.drop 0 = dktX4_partOf_0 := by decide +kernel
theorem dX4_partOf_0 : decode cX4_partOf 0 = .ok (.iload_n 2, 1) := dk_28 (dk_at dksX4_partOf_0 0 rfl rfl)
theorem dX4_partOf_1 : decode cX4_partOf 1 = .ok (.ifCond .ne 10, 3) := dk_154 0 10 (dk_at dksX4_partOf_0 1 rfl rfl)
theorem dX4_partOf_4 : decode cX4_partOf 4 = .ok (.lload_n 0, 1) := dk_30 (dk_at dksX4_partOf_0 4 rfl rfl)
theorem dX4_partOf_5 : decode cX4_partOf 5 = .ok (.invokestatic 245, 3) := dk_184 0 245 (dk_at dksX4_partOf_0 5 rfl rfl)
theorem dX4_partOf_8 : decode cX4_partOf 8 = .ok (.goto 7, 3) := dk_167 0 7 (dk_at dksX4_partOf_0 8 rfl rfl)
theorem dX4_partOf_11 : decode cX4_partOf 11 = .ok (.lload_n 0, 1) := dk_30 (dk_at dksX4_partOf_0 11 rfl rfl)
theorem dX4_partOf_12 : decode cX4_partOf 12 = .ok (.invokestatic 249, 3) := dk_184 0 249 (dk_at dksX4_partOf_0 12 rfl rfl)
theorem dX4_partOf_15 : decode cX4_partOf 15 = .ok (.ireturn, 1) := dk_172 (dk_at dksX4_partOf_0 15 rfl rfl)
abbrev cX4_nimber : ByteArray := prog_18_method_104_code
def yX4_nimber : MethodName := ⟨RX4, "nimber", "(I)I"⟩
def dkwX4_nimber_2 : List UInt8 := [153, 0, 14, 42, 180, 0, 82, 3, 46, 4, 100, 167, 0, 5, 18, 195, 172]
abbrev dktX4_nimber_2 : List UInt8 := dkwX4_nimber_2 ++ []
def dkwX4_nimber_1 : List UInt8 := [104, 46, 4, 100, 182, 1, 20, 42, 180, 0, 9, 16, 65, 27, 104, 42, 180, 0, 82, 3, 184, 1, 49]
abbrev dktX4_nimber_1 : List UInt8 := dkwX4_nimber_1 ++ dktX4_nimber_2
def dkwX4_nimber_0 : List UInt8 := [42, 3, 181, 0, 146, 27, 184, 1, 34, 154, 0, 7, 19, 1, 37, 172, 42, 42, 180, 0, 9, 16, 65, 27]
abbrev dktX4_nimber_0 : List UInt8 := dkwX4_nimber_0 ++ dktX4_nimber_1
theorem dksX4_nimber_0 : cX4_nimber.data.toList.drop 0 = dktX4_nimber_0 := by decide +kernel
theorem dksX4_nimber_1 : cX4_nimber.data.toList.drop 24 = dktX4_nimber_1 := dk_seg dksX4_nimber_0 24 rfl rfl
theorem dksX4_nimber_2 : cX4_nimber.data.toList.drop 47 = dktX4_nimber_2 := dk_seg dksX4_nimber_1 23 rfl rfl
theorem dX4_nimber_0 : decode cX4_nimber 0 = .ok (.aload_n 0, 1) := dk_42 (dk_at dksX4_nimber_0 0 rfl rfl)
theorem dX4_nimber_1 : decode cX4_nimber 1 = .ok (.iconst 0, 1) := dk_3 (dk_at dksX4_nimber_0 1 rfl rfl)
theorem dX4_nimber_2 : decode cX4_nimber 2 = .ok (.putfield 146, 3) := dk_181 0 146 (dk_at dksX4_nimber_0 2 rfl rfl)
theorem dX4_nimber_5 : decode cX4_nimber 5 = .ok (.iload_n 1, 1) := dk_27 (dk_at dksX4_nimber_0 5 rfl rfl)
theorem dX4_nimber_6 : decode cX4_nimber 6 = .ok (.invokestatic 290, 3) := dk_184 1 34 (dk_at dksX4_nimber_0 6 rfl rfl)
theorem dX4_nimber_9 : decode cX4_nimber 9 = .ok (.ifCond .ne 7, 3) := dk_154 0 7 (dk_at dksX4_nimber_0 9 rfl rfl)
theorem dX4_nimber_12 : decode cX4_nimber 12 = .ok (.ldc_w 293, 3) := dk_19 1 37 (dk_at dksX4_nimber_0 12 rfl rfl)
theorem dX4_nimber_15 : decode cX4_nimber 15 = .ok (.ireturn, 1) := dk_172 (dk_at dksX4_nimber_0 15 rfl rfl)
theorem dX4_nimber_16 : decode cX4_nimber 16 = .ok (.aload_n 0, 1) := dk_42 (dk_at dksX4_nimber_0 16 rfl rfl)
theorem dX4_nimber_17 : decode cX4_nimber 17 = .ok (.aload_n 0, 1) := dk_42 (dk_at dksX4_nimber_0 17 rfl rfl)
theorem dX4_nimber_18 : decode cX4_nimber 18 = .ok (.getfield 9, 3) := dk_180 0 9 (dk_at dksX4_nimber_0 18 rfl rfl)
theorem dX4_nimber_21 : decode cX4_nimber 21 = .ok (.bipush 65, 2) := dk_16 65 (dk_at dksX4_nimber_0 21 rfl rfl)
theorem dX4_nimber_23 : decode cX4_nimber 23 = .ok (.iload_n 1, 1) := dk_27 (dk_at dksX4_nimber_0 23 rfl rfl)
theorem dX4_nimber_24 : decode cX4_nimber 24 = .ok (.imul, 1) := dk_104 (dk_at dksX4_nimber_1 0 rfl rfl)
theorem dX4_nimber_25 : decode cX4_nimber 25 = .ok (.iaload, 1) := dk_46 (dk_at dksX4_nimber_1 1 rfl rfl)
theorem dX4_nimber_26 : decode cX4_nimber 26 = .ok (.iconst 1, 1) := dk_4 (dk_at dksX4_nimber_1 2 rfl rfl)
theorem dX4_nimber_27 : decode cX4_nimber 27 = .ok (.isub, 1) := dk_100 (dk_at dksX4_nimber_1 3 rfl rfl)
theorem dX4_nimber_28 : decode cX4_nimber 28 = .ok (.invokevirtual 276, 3) := dk_182 1 20 (dk_at dksX4_nimber_1 4 rfl rfl)
theorem dX4_nimber_31 : decode cX4_nimber 31 = .ok (.aload_n 0, 1) := dk_42 (dk_at dksX4_nimber_1 7 rfl rfl)
theorem dX4_nimber_32 : decode cX4_nimber 32 = .ok (.getfield 9, 3) := dk_180 0 9 (dk_at dksX4_nimber_1 8 rfl rfl)
theorem dX4_nimber_35 : decode cX4_nimber 35 = .ok (.bipush 65, 2) := dk_16 65 (dk_at dksX4_nimber_1 11 rfl rfl)
theorem dX4_nimber_37 : decode cX4_nimber 37 = .ok (.iload_n 1, 1) := dk_27 (dk_at dksX4_nimber_1 13 rfl rfl)
theorem dX4_nimber_38 : decode cX4_nimber 38 = .ok (.imul, 1) := dk_104 (dk_at dksX4_nimber_1 14 rfl rfl)
theorem dX4_nimber_39 : decode cX4_nimber 39 = .ok (.aload_n 0, 1) := dk_42 (dk_at dksX4_nimber_1 15 rfl rfl)
theorem dX4_nimber_40 : decode cX4_nimber 40 = .ok (.getfield 82, 3) := dk_180 0 82 (dk_at dksX4_nimber_1 16 rfl rfl)
theorem dX4_nimber_43 : decode cX4_nimber 43 = .ok (.iconst 0, 1) := dk_3 (dk_at dksX4_nimber_1 19 rfl rfl)
theorem dX4_nimber_44 : decode cX4_nimber 44 = .ok (.invokestatic 305, 3) := dk_184 1 49 (dk_at dksX4_nimber_1 20 rfl rfl)
theorem dX4_nimber_47 : decode cX4_nimber 47 = .ok (.ifCond .eq 14, 3) := dk_153 0 14 (dk_at dksX4_nimber_2 0 rfl rfl)
theorem dX4_nimber_50 : decode cX4_nimber 50 = .ok (.aload_n 0, 1) := dk_42 (dk_at dksX4_nimber_2 3 rfl rfl)
theorem dX4_nimber_51 : decode cX4_nimber 51 = .ok (.getfield 82, 3) := dk_180 0 82 (dk_at dksX4_nimber_2 4 rfl rfl)
theorem dX4_nimber_54 : decode cX4_nimber 54 = .ok (.iconst 0, 1) := dk_3 (dk_at dksX4_nimber_2 7 rfl rfl)
theorem dX4_nimber_55 : decode cX4_nimber 55 = .ok (.iaload, 1) := dk_46 (dk_at dksX4_nimber_2 8 rfl rfl)
theorem dX4_nimber_56 : decode cX4_nimber 56 = .ok (.iconst 1, 1) := dk_4 (dk_at dksX4_nimber_2 9 rfl rfl)
theorem dX4_nimber_57 : decode cX4_nimber 57 = .ok (.isub, 1) := dk_100 (dk_at dksX4_nimber_2 10 rfl rfl)
theorem dX4_nimber_58 : decode cX4_nimber 58 = .ok (.goto 5, 3) := dk_167 0 5 (dk_at dksX4_nimber_2 11 rfl rfl)
theorem dX4_nimber_61 : decode cX4_nimber 61 = .ok (.ldc 195, 2) := dk_18 195 (dk_at dksX4_nimber_2 14 rfl rfl)
theorem dX4_nimber_63 : decode cX4_nimber 63 = .ok (.ireturn, 1) := dk_172 (dk_at dksX4_nimber_2 16 rfl rfl)
abbrev cX4_ups : ByteArray := prog_18_method_105_code
def yX4_ups : MethodName := ⟨RX4, "ups", "(II)I"⟩
def dkwX4_ups_3 : List UInt8 := [132, 3, 1, 167, 255, 208, 18, 195, 172]
abbrev dktX4_ups_3 : List UInt8 := dkwX4_ups_3 ++ []
def dkwX4_ups_2 : List UInt8 := [104, 184, 1, 49, 153, 0, 20, 28, 154, 0, 12, 29, 7, 108, 16, 6, 96, 167, 0, 6, 29, 7, 112, 172]
abbrev dktX4_ups_2 : List UInt8 := dkwX4_ups_2 ++ dktX4_ups_3
def dkwX4_ups_1 : List UInt8 := [172, 3, 62, 29, 16, 36, 162, 0, 48, 42, 180, 0, 9, 16, 65, 27, 104, 42, 180, 0, 28, 16, 65, 29]
abbrev dktX4_ups_1 : List UInt8 := dkwX4_ups_1 ++ dktX4_ups_2
def dkwX4_ups_0 : List UInt8 := [42, 3, 181, 0, 146, 27, 184, 1, 34, 153, 0, 12, 28, 3, 4, 184, 0, 153, 154, 0, 7, 19, 1, 37]
abbrev dktX4_ups_0 : List UInt8 := dkwX4_ups_0 ++ dktX4_ups_1
theorem dksX4_ups_0 : cX4_ups.data.toList.drop 0 = dktX4_ups_0 := by decide +kernel
theorem dksX4_ups_1 : cX4_ups.data.toList.drop 24 = dktX4_ups_1 := dk_seg dksX4_ups_0 24 rfl rfl
theorem dksX4_ups_2 : cX4_ups.data.toList.drop 48 = dktX4_ups_2 := dk_seg dksX4_ups_1 24 rfl rfl
theorem dksX4_ups_3 : cX4_ups.data.toList.drop 72 = dktX4_ups_3 := dk_seg dksX4_ups_2 24 rfl rfl
theorem dX4_ups_0 : decode cX4_ups 0 = .ok (.aload_n 0, 1) := dk_42 (dk_at dksX4_ups_0 0 rfl rfl)
theorem dX4_ups_1 : decode cX4_ups 1 = .ok (.iconst 0, 1) := dk_3 (dk_at dksX4_ups_0 1 rfl rfl)
theorem dX4_ups_2 : decode cX4_ups 2 = .ok (.putfield 146, 3) := dk_181 0 146 (dk_at dksX4_ups_0 2 rfl rfl)
theorem dX4_ups_5 : decode cX4_ups 5 = .ok (.iload_n 1, 1) := dk_27 (dk_at dksX4_ups_0 5 rfl rfl)
theorem dX4_ups_6 : decode cX4_ups 6 = .ok (.invokestatic 290, 3) := dk_184 1 34 (dk_at dksX4_ups_0 6 rfl rfl)
theorem dX4_ups_9 : decode cX4_ups 9 = .ok (.ifCond .eq 12, 3) := dk_153 0 12 (dk_at dksX4_ups_0 9 rfl rfl)
theorem dX4_ups_12 : decode cX4_ups 12 = .ok (.iload_n 2, 1) := dk_28 (dk_at dksX4_ups_0 12 rfl rfl)
theorem dX4_ups_13 : decode cX4_ups 13 = .ok (.iconst 0, 1) := dk_3 (dk_at dksX4_ups_0 13 rfl rfl)
theorem dX4_ups_14 : decode cX4_ups 14 = .ok (.iconst 1, 1) := dk_4 (dk_at dksX4_ups_0 14 rfl rfl)
theorem dX4_ups_15 : decode cX4_ups 15 = .ok (.invokestatic 153, 3) := dk_184 0 153 (dk_at dksX4_ups_0 15 rfl rfl)
theorem dX4_ups_18 : decode cX4_ups 18 = .ok (.ifCond .ne 7, 3) := dk_154 0 7 (dk_at dksX4_ups_0 18 rfl rfl)
theorem dX4_ups_21 : decode cX4_ups 21 = .ok (.ldc_w 293, 3) := dk_19 1 37 (dk_at dksX4_ups_0 21 rfl rfl)
theorem dX4_ups_24 : decode cX4_ups 24 = .ok (.ireturn, 1) := dk_172 (dk_at dksX4_ups_1 0 rfl rfl)
theorem dX4_ups_25 : decode cX4_ups 25 = .ok (.iconst 0, 1) := dk_3 (dk_at dksX4_ups_1 1 rfl rfl)
theorem dX4_ups_26 : decode cX4_ups 26 = .ok (.istore_n 3, 1) := dk_62 (dk_at dksX4_ups_1 2 rfl rfl)
theorem dX4_ups_27 : decode cX4_ups 27 = .ok (.iload_n 3, 1) := dk_29 (dk_at dksX4_ups_1 3 rfl rfl)
theorem dX4_ups_28 : decode cX4_ups 28 = .ok (.bipush 36, 2) := dk_16 36 (dk_at dksX4_ups_1 4 rfl rfl)
theorem dX4_ups_30 : decode cX4_ups 30 = .ok (.if_icmp .ge 48, 3) := dk_162 0 48 (dk_at dksX4_ups_1 6 rfl rfl)
theorem dX4_ups_33 : decode cX4_ups 33 = .ok (.aload_n 0, 1) := dk_42 (dk_at dksX4_ups_1 9 rfl rfl)
theorem dX4_ups_34 : decode cX4_ups 34 = .ok (.getfield 9, 3) := dk_180 0 9 (dk_at dksX4_ups_1 10 rfl rfl)
theorem dX4_ups_37 : decode cX4_ups 37 = .ok (.bipush 65, 2) := dk_16 65 (dk_at dksX4_ups_1 13 rfl rfl)
theorem dX4_ups_39 : decode cX4_ups 39 = .ok (.iload_n 1, 1) := dk_27 (dk_at dksX4_ups_1 15 rfl rfl)
theorem dX4_ups_40 : decode cX4_ups 40 = .ok (.imul, 1) := dk_104 (dk_at dksX4_ups_1 16 rfl rfl)
theorem dX4_ups_41 : decode cX4_ups 41 = .ok (.aload_n 0, 1) := dk_42 (dk_at dksX4_ups_1 17 rfl rfl)
theorem dX4_ups_42 : decode cX4_ups 42 = .ok (.getfield 28, 3) := dk_180 0 28 (dk_at dksX4_ups_1 18 rfl rfl)
theorem dX4_ups_45 : decode cX4_ups 45 = .ok (.bipush 65, 2) := dk_16 65 (dk_at dksX4_ups_1 21 rfl rfl)
theorem dX4_ups_47 : decode cX4_ups 47 = .ok (.iload_n 3, 1) := dk_29 (dk_at dksX4_ups_1 23 rfl rfl)
theorem dX4_ups_48 : decode cX4_ups 48 = .ok (.imul, 1) := dk_104 (dk_at dksX4_ups_2 0 rfl rfl)
theorem dX4_ups_49 : decode cX4_ups 49 = .ok (.invokestatic 305, 3) := dk_184 1 49 (dk_at dksX4_ups_2 1 rfl rfl)
theorem dX4_ups_52 : decode cX4_ups 52 = .ok (.ifCond .eq 20, 3) := dk_153 0 20 (dk_at dksX4_ups_2 4 rfl rfl)
theorem dX4_ups_55 : decode cX4_ups 55 = .ok (.iload_n 2, 1) := dk_28 (dk_at dksX4_ups_2 7 rfl rfl)
theorem dX4_ups_56 : decode cX4_ups 56 = .ok (.ifCond .ne 12, 3) := dk_154 0 12 (dk_at dksX4_ups_2 8 rfl rfl)
theorem dX4_ups_59 : decode cX4_ups 59 = .ok (.iload_n 3, 1) := dk_29 (dk_at dksX4_ups_2 11 rfl rfl)
theorem dX4_ups_60 : decode cX4_ups 60 = .ok (.iconst 4, 1) := dk_7 (dk_at dksX4_ups_2 12 rfl rfl)
theorem dX4_ups_61 : decode cX4_ups 61 = .ok (.idiv, 1) := dk_108 (dk_at dksX4_ups_2 13 rfl rfl)
theorem dX4_ups_62 : decode cX4_ups 62 = .ok (.bipush 6, 2) := dk_16 6 (dk_at dksX4_ups_2 14 rfl rfl)
theorem dX4_ups_64 : decode cX4_ups 64 = .ok (.iadd, 1) := dk_96 (dk_at dksX4_ups_2 16 rfl rfl)
theorem dX4_ups_65 : decode cX4_ups 65 = .ok (.goto 6, 3) := dk_167 0 6 (dk_at dksX4_ups_2 17 rfl rfl)
theorem dX4_ups_68 : decode cX4_ups 68 = .ok (.iload_n 3, 1) := dk_29 (dk_at dksX4_ups_2 20 rfl rfl)
theorem dX4_ups_69 : decode cX4_ups 69 = .ok (.iconst 4, 1) := dk_7 (dk_at dksX4_ups_2 21 rfl rfl)
theorem dX4_ups_70 : decode cX4_ups 70 = .ok (.irem, 1) := dk_112 (dk_at dksX4_ups_2 22 rfl rfl)
theorem dX4_ups_71 : decode cX4_ups 71 = .ok (.ireturn, 1) := dk_172 (dk_at dksX4_ups_2 23 rfl rfl)
theorem dX4_ups_72 : decode cX4_ups 72 = .ok (.iinc 3 1, 3) := dk_132 3 1 (dk_at dksX4_ups_3 0 rfl rfl)
theorem dX4_ups_75 : decode cX4_ups 75 = .ok (.goto (-48), 3) := dk_167 255 208 (dk_at dksX4_ups_3 3 rfl rfl)
theorem dX4_ups_78 : decode cX4_ups 78 = .ok (.ldc 195, 2) := dk_18 195 (dk_at dksX4_ups_3 6 rfl rfl)
theorem dX4_ups_80 : decode cX4_ups 80 = .ok (.ireturn, 1) := dk_172 (dk_at dksX4_ups_3 8 rfl rfl)
abbrev cX4_isInfinitesimal : ByteArray := prog_18_method_111_code
def yX4_isInfinitesimal : MethodName := ⟨RX4, "isInfinitesimal", "(I)I"⟩
def dkwX4_isInfinitesimal_1 : List UInt8 := [148, 154, 0, 19, 42, 27, 4, 9, 182, 1, 211, 9, 148, 154, 0, 7, 4, 167, 0, 4, 3, 172]
abbrev dktX4_isInfinitesimal_1 : List UInt8 := dkwX4_isInfinitesimal_1 ++ []
def dkwX4_isInfinitesimal_0 : List UInt8 := [42, 3, 181, 0, 146, 27, 184, 1, 34, 154, 0, 7, 19, 1, 37, 172, 42, 27, 3, 9, 182, 1, 211, 9]
abbrev dktX4_isInfinitesimal_0 : List UInt8 := dkwX4_isInfinitesimal_0 ++ dktX4_isInfinitesimal_1
theorem dksX4_isInfinitesimal_0 : cX4_isInfinitesimal.data.toList.drop 0 = dktX4_isInfinitesimal_0 := by decide +kernel
theorem dksX4_isInfinitesimal_1 : cX4_isInfinitesimal.data.toList.drop 24 = dktX4_isInfinitesimal_1 := dk_seg dksX4_isInfinitesimal_0 24 rfl rfl
theorem dX4_isInfinitesimal_0 : decode cX4_isInfinitesimal 0 = .ok (.aload_n 0, 1) := dk_42 (dk_at dksX4_isInfinitesimal_0 0 rfl rfl)
theorem dX4_isInfinitesimal_1 : decode cX4_isInfinitesimal 1 = .ok (.iconst 0, 1) := dk_3 (dk_at dksX4_isInfinitesimal_0 1 rfl rfl)
theorem dX4_isInfinitesimal_2 : decode cX4_isInfinitesimal 2 = .ok (.putfield 146, 3) := dk_181 0 146 (dk_at dksX4_isInfinitesimal_0 2 rfl rfl)
theorem dX4_isInfinitesimal_5 : decode cX4_isInfinitesimal 5 = .ok (.iload_n 1, 1) := dk_27 (dk_at dksX4_isInfinitesimal_0 5 rfl rfl)
theorem dX4_isInfinitesimal_6 : decode cX4_isInfinitesimal 6 = .ok (.invokestatic 290, 3) := dk_184 1 34 (dk_at dksX4_isInfinitesimal_0 6 rfl rfl)
theorem dX4_isInfinitesimal_9 : decode cX4_isInfinitesimal 9 = .ok (.ifCond .ne 7, 3) := dk_154 0 7 (dk_at dksX4_isInfinitesimal_0 9 rfl rfl)
theorem dX4_isInfinitesimal_12 : decode cX4_isInfinitesimal 12 = .ok (.ldc_w 293, 3) := dk_19 1 37 (dk_at dksX4_isInfinitesimal_0 12 rfl rfl)
theorem dX4_isInfinitesimal_15 : decode cX4_isInfinitesimal 15 = .ok (.ireturn, 1) := dk_172 (dk_at dksX4_isInfinitesimal_0 15 rfl rfl)
theorem dX4_isInfinitesimal_16 : decode cX4_isInfinitesimal 16 = .ok (.aload_n 0, 1) := dk_42 (dk_at dksX4_isInfinitesimal_0 16 rfl rfl)
theorem dX4_isInfinitesimal_17 : decode cX4_isInfinitesimal 17 = .ok (.iload_n 1, 1) := dk_27 (dk_at dksX4_isInfinitesimal_0 17 rfl rfl)
theorem dX4_isInfinitesimal_18 : decode cX4_isInfinitesimal 18 = .ok (.iconst 0, 1) := dk_3 (dk_at dksX4_isInfinitesimal_0 18 rfl rfl)
theorem dX4_isInfinitesimal_19 : decode cX4_isInfinitesimal 19 = .ok (.lconst 0, 1) := dk_9 (dk_at dksX4_isInfinitesimal_0 19 rfl rfl)
theorem dX4_isInfinitesimal_20 : decode cX4_isInfinitesimal 20 = .ok (.invokevirtual 467, 3) := dk_182 1 211 (dk_at dksX4_isInfinitesimal_0 20 rfl rfl)
theorem dX4_isInfinitesimal_23 : decode cX4_isInfinitesimal 23 = .ok (.lconst 0, 1) := dk_9 (dk_at dksX4_isInfinitesimal_0 23 rfl rfl)
theorem dX4_isInfinitesimal_24 : decode cX4_isInfinitesimal 24 = .ok (.lcmp, 1) := dk_148 (dk_at dksX4_isInfinitesimal_1 0 rfl rfl)
theorem dX4_isInfinitesimal_25 : decode cX4_isInfinitesimal 25 = .ok (.ifCond .ne 19, 3) := dk_154 0 19 (dk_at dksX4_isInfinitesimal_1 1 rfl rfl)
theorem dX4_isInfinitesimal_28 : decode cX4_isInfinitesimal 28 = .ok (.aload_n 0, 1) := dk_42 (dk_at dksX4_isInfinitesimal_1 4 rfl rfl)
theorem dX4_isInfinitesimal_29 : decode cX4_isInfinitesimal 29 = .ok (.iload_n 1, 1) := dk_27 (dk_at dksX4_isInfinitesimal_1 5 rfl rfl)
theorem dX4_isInfinitesimal_30 : decode cX4_isInfinitesimal 30 = .ok (.iconst 1, 1) := dk_4 (dk_at dksX4_isInfinitesimal_1 6 rfl rfl)
theorem dX4_isInfinitesimal_31 : decode cX4_isInfinitesimal 31 = .ok (.lconst 0, 1) := dk_9 (dk_at dksX4_isInfinitesimal_1 7 rfl rfl)
theorem dX4_isInfinitesimal_32 : decode cX4_isInfinitesimal 32 = .ok (.invokevirtual 467, 3) := dk_182 1 211 (dk_at dksX4_isInfinitesimal_1 8 rfl rfl)
theorem dX4_isInfinitesimal_35 : decode cX4_isInfinitesimal 35 = .ok (.lconst 0, 1) := dk_9 (dk_at dksX4_isInfinitesimal_1 11 rfl rfl)
theorem dX4_isInfinitesimal_36 : decode cX4_isInfinitesimal 36 = .ok (.lcmp, 1) := dk_148 (dk_at dksX4_isInfinitesimal_1 12 rfl rfl)
theorem dX4_isInfinitesimal_37 : decode cX4_isInfinitesimal 37 = .ok (.ifCond .ne 7, 3) := dk_154 0 7 (dk_at dksX4_isInfinitesimal_1 13 rfl rfl)
theorem dX4_isInfinitesimal_40 : decode cX4_isInfinitesimal 40 = .ok (.iconst 1, 1) := dk_4 (dk_at dksX4_isInfinitesimal_1 16 rfl rfl)
theorem dX4_isInfinitesimal_41 : decode cX4_isInfinitesimal 41 = .ok (.goto 4, 3) := dk_167 0 4 (dk_at dksX4_isInfinitesimal_1 17 rfl rfl)
theorem dX4_isInfinitesimal_44 : decode cX4_isInfinitesimal 44 = .ok (.iconst 0, 1) := dk_3 (dk_at dksX4_isInfinitesimal_1 20 rfl rfl)
theorem dX4_isInfinitesimal_45 : decode cX4_isInfinitesimal 45 = .ok (.ireturn, 1) := dk_172 (dk_at dksX4_isInfinitesimal_1 21 rfl rfl)
abbrev cX4_wallOf : ByteArray := prog_18_method_110_code
def yX4_wallOf : MethodName := ⟨RX4, "wallOf", "(IIJ)J"⟩
def dkwX4_wallOf_2 : List UInt8 := [180, 0, 143, 21, 6, 4, 100, 47, 173]
abbrev dktX4_wallOf_2 : List UInt8 := dkwX4_wallOf_2 ++ []
def dkwX4_wallOf_1 : List UInt8 := [21, 6, 33, 182, 1, 204, 28, 154, 0, 15, 42, 180, 0, 140, 21, 6, 4, 100, 47, 167, 0, 12, 42]
abbrev dktX4_wallOf_1 : List UInt8 := dkwX4_wallOf_1 ++ dktX4_wallOf_2
def dkwX4_wallOf_0 : List UInt8 := [42, 27, 182, 1, 208, 16, 65, 27, 104, 54, 5, 42, 180, 0, 9, 21, 5, 46, 54, 6, 42, 21, 5]
abbrev dktX4_wallOf_0 : List UInt8 := dkwX4_wallOf_0 ++ dktX4_wallOf_1
theorem dksX4_wallOf_0 : cX4_wallOf.data.toList.drop 0 = dktX4_wallOf_0 := by decide +kernel
theorem dksX4_wallOf_1 : cX4_wallOf.data.toList.drop 23 = dktX4_wallOf_1 := dk_seg dksX4_wallOf_0 23 rfl rfl
theorem dksX4_wallOf_2 : cX4_wallOf.data.toList.drop 46 = dktX4_wallOf_2 := dk_seg dksX4_wallOf_1 23 rfl rfl
theorem dX4_wallOf_0 : decode cX4_wallOf 0 = .ok (.aload_n 0, 1) := dk_42 (dk_at dksX4_wallOf_0 0 rfl rfl)
theorem dX4_wallOf_1 : decode cX4_wallOf 1 = .ok (.iload_n 1, 1) := dk_27 (dk_at dksX4_wallOf_0 1 rfl rfl)
theorem dX4_wallOf_2 : decode cX4_wallOf 2 = .ok (.invokevirtual 464, 3) := dk_182 1 208 (dk_at dksX4_wallOf_0 2 rfl rfl)
theorem dX4_wallOf_5 : decode cX4_wallOf 5 = .ok (.bipush 65, 2) := dk_16 65 (dk_at dksX4_wallOf_0 5 rfl rfl)
theorem dX4_wallOf_7 : decode cX4_wallOf 7 = .ok (.iload_n 1, 1) := dk_27 (dk_at dksX4_wallOf_0 7 rfl rfl)
theorem dX4_wallOf_8 : decode cX4_wallOf 8 = .ok (.imul, 1) := dk_104 (dk_at dksX4_wallOf_0 8 rfl rfl)
theorem dX4_wallOf_9 : decode cX4_wallOf 9 = .ok (.istore 5, 2) := dk_54 5 (dk_at dksX4_wallOf_0 9 rfl rfl)
theorem dX4_wallOf_11 : decode cX4_wallOf 11 = .ok (.aload_n 0, 1) := dk_42 (dk_at dksX4_wallOf_0 11 rfl rfl)
theorem dX4_wallOf_12 : decode cX4_wallOf 12 = .ok (.getfield 9, 3) := dk_180 0 9 (dk_at dksX4_wallOf_0 12 rfl rfl)
theorem dX4_wallOf_15 : decode cX4_wallOf 15 = .ok (.iload 5, 2) := dk_21 5 (dk_at dksX4_wallOf_0 15 rfl rfl)
theorem dX4_wallOf_17 : decode cX4_wallOf 17 = .ok (.iaload, 1) := dk_46 (dk_at dksX4_wallOf_0 17 rfl rfl)
theorem dX4_wallOf_18 : decode cX4_wallOf 18 = .ok (.istore 6, 2) := dk_54 6 (dk_at dksX4_wallOf_0 18 rfl rfl)
theorem dX4_wallOf_20 : decode cX4_wallOf 20 = .ok (.aload_n 0, 1) := dk_42 (dk_at dksX4_wallOf_0 20 rfl rfl)
theorem dX4_wallOf_21 : decode cX4_wallOf 21 = .ok (.iload 5, 2) := dk_21 5 (dk_at dksX4_wallOf_0 21 rfl rfl)
theorem dX4_wallOf_23 : decode cX4_wallOf 23 = .ok (.iload 6, 2) := dk_21 6 (dk_at dksX4_wallOf_1 0 rfl rfl)
theorem dX4_wallOf_25 : decode cX4_wallOf 25 = .ok (.lload_n 3, 1) := dk_33 (dk_at dksX4_wallOf_1 2 rfl rfl)
theorem dX4_wallOf_26 : decode cX4_wallOf 26 = .ok (.invokevirtual 460, 3) := dk_182 1 204 (dk_at dksX4_wallOf_1 3 rfl rfl)
theorem dX4_wallOf_29 : decode cX4_wallOf 29 = .ok (.iload_n 2, 1) := dk_28 (dk_at dksX4_wallOf_1 6 rfl rfl)
theorem dX4_wallOf_30 : decode cX4_wallOf 30 = .ok (.ifCond .ne 15, 3) := dk_154 0 15 (dk_at dksX4_wallOf_1 7 rfl rfl)
theorem dX4_wallOf_33 : decode cX4_wallOf 33 = .ok (.aload_n 0, 1) := dk_42 (dk_at dksX4_wallOf_1 10 rfl rfl)
theorem dX4_wallOf_34 : decode cX4_wallOf 34 = .ok (.getfield 140, 3) := dk_180 0 140 (dk_at dksX4_wallOf_1 11 rfl rfl)
theorem dX4_wallOf_37 : decode cX4_wallOf 37 = .ok (.iload 6, 2) := dk_21 6 (dk_at dksX4_wallOf_1 14 rfl rfl)
theorem dX4_wallOf_39 : decode cX4_wallOf 39 = .ok (.iconst 1, 1) := dk_4 (dk_at dksX4_wallOf_1 16 rfl rfl)
theorem dX4_wallOf_40 : decode cX4_wallOf 40 = .ok (.isub, 1) := dk_100 (dk_at dksX4_wallOf_1 17 rfl rfl)
theorem dX4_wallOf_41 : decode cX4_wallOf 41 = .ok (.laload, 1) := dk_47 (dk_at dksX4_wallOf_1 18 rfl rfl)
theorem dX4_wallOf_42 : decode cX4_wallOf 42 = .ok (.goto 12, 3) := dk_167 0 12 (dk_at dksX4_wallOf_1 19 rfl rfl)
theorem dX4_wallOf_45 : decode cX4_wallOf 45 = .ok (.aload_n 0, 1) := dk_42 (dk_at dksX4_wallOf_1 22 rfl rfl)
theorem dX4_wallOf_46 : decode cX4_wallOf 46 = .ok (.getfield 143, 3) := dk_180 0 143 (dk_at dksX4_wallOf_2 0 rfl rfl)
theorem dX4_wallOf_49 : decode cX4_wallOf 49 = .ok (.iload 6, 2) := dk_21 6 (dk_at dksX4_wallOf_2 3 rfl rfl)
theorem dX4_wallOf_51 : decode cX4_wallOf 51 = .ok (.iconst 1, 1) := dk_4 (dk_at dksX4_wallOf_2 5 rfl rfl)
theorem dX4_wallOf_52 : decode cX4_wallOf 52 = .ok (.isub, 1) := dk_100 (dk_at dksX4_wallOf_2 6 rfl rfl)
theorem dX4_wallOf_53 : decode cX4_wallOf 53 = .ok (.laload, 1) := dk_47 (dk_at dksX4_wallOf_2 7 rfl rfl)
theorem dX4_wallOf_54 : decode cX4_wallOf 54 = .ok (.lreturn, 1) := dk_173 (dk_at dksX4_wallOf_2 8 rfl rfl)
abbrev cX4_heat : ByteArray := prog_18_method_109_code
def yX4_heat : MethodName := ⟨RX4, "heat", "(I)V"⟩
def dkwX4_heat_9 : List UInt8 := [184, 1, 193, 22, 7, 101, 80, 132, 4, 1, 167, 255, 52, 177]
abbrev dktX4_heat_9 : List UInt8 := dkwX4_heat_9 ++ []
def dkwX4_heat_8 : List UInt8 := [180, 0, 137, 21, 4, 42, 180, 0, 9, 28, 4, 96, 5, 21, 4, 104, 96, 46, 42, 180, 0, 143]
abbrev dktX4_heat_8 : List UInt8 := dkwX4_heat_8 ++ dktX4_heat_9
def dkwX4_heat_7 : List UInt8 := [55, 7, 167, 255, 141, 42, 28, 21, 4, 22, 7, 182, 1, 204, 42, 180, 0, 134, 21, 4, 22, 7, 80, 42]
abbrev dktX4_heat_7 : List UInt8 := dkwX4_heat_7 ++ dktX4_heat_8
def dkwX4_heat_6 : List UInt8 := [153, 0, 8, 22, 5, 167, 0, 5, 22, 9, 55, 5, 21, 11, 153, 0, 8, 22, 9, 167, 0, 5, 22, 7]
abbrev dktX4_heat_6 : List UInt8 := dkwX4_heat_6 ++ dktX4_heat_7
def dkwX4_heat_5 : List UInt8 := [180, 0, 140, 184, 1, 197, 22, 9, 97, 148, 157, 0, 7, 4, 167, 0, 4, 3, 54, 11, 21, 11]
abbrev dktX4_heat_5 : List UInt8 := dkwX4_heat_5 ++ dktX4_heat_6
def dkwX4_heat_4 : List UInt8 := [42, 180, 0, 143, 184, 1, 193, 22, 9, 101, 42, 180, 0, 9, 28, 5, 96, 5, 21, 4, 104, 96, 46, 42]
abbrev dktX4_heat_4 : List UInt8 := dkwX4_heat_4 ++ dktX4_heat_5
def dkwX4_heat_3 : List UInt8 := [55, 9, 42, 28, 21, 4, 22, 9, 182, 1, 204, 42, 180, 0, 9, 28, 4, 96, 5, 21, 4, 104, 96, 46]
abbrev dktX4_heat_3 : List UInt8 := dkwX4_heat_3 ++ dktX4_heat_4
def dkwX4_heat_2 : List UInt8 := [20, 1, 202, 55, 7, 22, 7, 22, 5, 101, 10, 148, 158, 0, 111, 22, 5, 22, 7, 97, 20, 0, 237, 109]
abbrev dktX4_heat_2 : List UInt8 := dkwX4_heat_2 ++ dktX4_heat_3
def dkwX4_heat_1 : List UInt8 := [28, 46, 162, 0, 199, 29, 154, 0, 195, 42, 180, 0, 89, 21, 4, 51, 154, 0, 179, 20, 1, 200, 55, 5]
abbrev dktX4_heat_1 : List UInt8 := dkwX4_heat_1 ++ dktX4_heat_2
def dkwX4_heat_0 : List UInt8 := [16, 65, 27, 104, 61, 42, 42, 180, 0, 9, 28, 182, 0, 252, 62, 3, 54, 4, 21, 4, 42, 180, 0, 9]
abbrev dktX4_heat_0 : List UInt8 := dkwX4_heat_0 ++ dktX4_heat_1
theorem dksX4_heat_0 : cX4_heat.data.toList.drop 0 = dktX4_heat_0 := by decide +kernel
theorem dksX4_heat_1 : cX4_heat.data.toList.drop 24 = dktX4_heat_1 := dk_seg dksX4_heat_0 24 rfl rfl
theorem dksX4_heat_2 : cX4_heat.data.toList.drop 48 = dktX4_heat_2 := dk_seg dksX4_heat_1 24 rfl rfl
theorem dksX4_heat_3 : cX4_heat.data.toList.drop 72 = dktX4_heat_3 := dk_seg dksX4_heat_2 24 rfl rfl
theorem dksX4_heat_4 : cX4_heat.data.toList.drop 96 = dktX4_heat_4 := dk_seg dksX4_heat_3 24 rfl rfl
theorem dksX4_heat_5 : cX4_heat.data.toList.drop 120 = dktX4_heat_5 := dk_seg dksX4_heat_4 24 rfl rfl
theorem dksX4_heat_6 : cX4_heat.data.toList.drop 142 = dktX4_heat_6 := dk_seg dksX4_heat_5 22 rfl rfl
theorem dksX4_heat_7 : cX4_heat.data.toList.drop 166 = dktX4_heat_7 := dk_seg dksX4_heat_6 24 rfl rfl
theorem dksX4_heat_8 : cX4_heat.data.toList.drop 190 = dktX4_heat_8 := dk_seg dksX4_heat_7 24 rfl rfl
theorem dksX4_heat_9 : cX4_heat.data.toList.drop 212 = dktX4_heat_9 := dk_seg dksX4_heat_8 22 rfl rfl
theorem dX4_heat_0 : decode cX4_heat 0 = .ok (.bipush 65, 2) := dk_16 65 (dk_at dksX4_heat_0 0 rfl rfl)
theorem dX4_heat_2 : decode cX4_heat 2 = .ok (.iload_n 1, 1) := dk_27 (dk_at dksX4_heat_0 2 rfl rfl)
theorem dX4_heat_3 : decode cX4_heat 3 = .ok (.imul, 1) := dk_104 (dk_at dksX4_heat_0 3 rfl rfl)
theorem dX4_heat_4 : decode cX4_heat 4 = .ok (.istore_n 2, 1) := dk_61 (dk_at dksX4_heat_0 4 rfl rfl)
theorem dX4_heat_5 : decode cX4_heat 5 = .ok (.aload_n 0, 1) := dk_42 (dk_at dksX4_heat_0 5 rfl rfl)
theorem dX4_heat_6 : decode cX4_heat 6 = .ok (.aload_n 0, 1) := dk_42 (dk_at dksX4_heat_0 6 rfl rfl)
theorem dX4_heat_7 : decode cX4_heat 7 = .ok (.getfield 9, 3) := dk_180 0 9 (dk_at dksX4_heat_0 7 rfl rfl)
theorem dX4_heat_10 : decode cX4_heat 10 = .ok (.iload_n 2, 1) := dk_28 (dk_at dksX4_heat_0 10 rfl rfl)
theorem dX4_heat_11 : decode cX4_heat 11 = .ok (.invokevirtual 252, 3) := dk_182 0 252 (dk_at dksX4_heat_0 11 rfl rfl)
theorem dX4_heat_14 : decode cX4_heat 14 = .ok (.istore_n 3, 1) := dk_62 (dk_at dksX4_heat_0 14 rfl rfl)
theorem dX4_heat_15 : decode cX4_heat 15 = .ok (.iconst 0, 1) := dk_3 (dk_at dksX4_heat_0 15 rfl rfl)
theorem dX4_heat_16 : decode cX4_heat 16 = .ok (.istore 4, 2) := dk_54 4 (dk_at dksX4_heat_0 16 rfl rfl)
theorem dX4_heat_18 : decode cX4_heat 18 = .ok (.iload 4, 2) := dk_21 4 (dk_at dksX4_heat_0 18 rfl rfl)
theorem dX4_heat_20 : decode cX4_heat 20 = .ok (.aload_n 0, 1) := dk_42 (dk_at dksX4_heat_0 20 rfl rfl)
theorem dX4_heat_21 : decode cX4_heat 21 = .ok (.getfield 9, 3) := dk_180 0 9 (dk_at dksX4_heat_0 21 rfl rfl)
theorem dX4_heat_24 : decode cX4_heat 24 = .ok (.iload_n 2, 1) := dk_28 (dk_at dksX4_heat_1 0 rfl rfl)
theorem dX4_heat_25 : decode cX4_heat 25 = .ok (.iaload, 1) := dk_46 (dk_at dksX4_heat_1 1 rfl rfl)
theorem dX4_heat_26 : decode cX4_heat 26 = .ok (.if_icmp .ge 199, 3) := dk_162 0 199 (dk_at dksX4_heat_1 2 rfl rfl)
theorem dX4_heat_29 : decode cX4_heat 29 = .ok (.iload_n 3, 1) := dk_29 (dk_at dksX4_heat_1 5 rfl rfl)
theorem dX4_heat_30 : decode cX4_heat 30 = .ok (.ifCond .ne 195, 3) := dk_154 0 195 (dk_at dksX4_heat_1 6 rfl rfl)
theorem dX4_heat_33 : decode cX4_heat 33 = .ok (.aload_n 0, 1) := dk_42 (dk_at dksX4_heat_1 9 rfl rfl)
theorem dX4_heat_34 : decode cX4_heat 34 = .ok (.getfield 89, 3) := dk_180 0 89 (dk_at dksX4_heat_1 10 rfl rfl)
theorem dX4_heat_37 : decode cX4_heat 37 = .ok (.iload 4, 2) := dk_21 4 (dk_at dksX4_heat_1 13 rfl rfl)
theorem dX4_heat_39 : decode cX4_heat 39 = .ok (.baload, 1) := dk_51 (dk_at dksX4_heat_1 15 rfl rfl)
theorem dX4_heat_40 : decode cX4_heat 40 = .ok (.ifCond .ne 179, 3) := dk_154 0 179 (dk_at dksX4_heat_1 16 rfl rfl)
theorem dX4_heat_43 : decode cX4_heat 43 = .ok (.ldc2_w 456, 3) := dk_20 1 200 (dk_at dksX4_heat_1 19 rfl rfl)
theorem dX4_heat_46 : decode cX4_heat 46 = .ok (.lstore 5, 2) := dk_55 5 (dk_at dksX4_heat_1 22 rfl rfl)
theorem dX4_heat_48 : decode cX4_heat 48 = .ok (.ldc2_w 458, 3) := dk_20 1 202 (dk_at dksX4_heat_2 0 rfl rfl)
theorem dX4_heat_51 : decode cX4_heat 51 = .ok (.lstore 7, 2) := dk_55 7 (dk_at dksX4_heat_2 3 rfl rfl)
theorem dX4_heat_53 : decode cX4_heat 53 = .ok (.lload 7, 2) := dk_22 7 (dk_at dksX4_heat_2 5 rfl rfl)
theorem dX4_heat_55 : decode cX4_heat 55 = .ok (.lload 5, 2) := dk_22 5 (dk_at dksX4_heat_2 7 rfl rfl)
theorem dX4_heat_57 : decode cX4_heat 57 = .ok (.lsub, 1) := dk_101 (dk_at dksX4_heat_2 9 rfl rfl)
theorem dX4_heat_58 : decode cX4_heat 58 = .ok (.lconst 1, 1) := dk_10 (dk_at dksX4_heat_2 10 rfl rfl)
theorem dX4_heat_59 : decode cX4_heat 59 = .ok (.lcmp, 1) := dk_148 (dk_at dksX4_heat_2 11 rfl rfl)
theorem dX4_heat_60 : decode cX4_heat 60 = .ok (.ifCond .le 111, 3) := dk_158 0 111 (dk_at dksX4_heat_2 12 rfl rfl)
theorem dX4_heat_63 : decode cX4_heat 63 = .ok (.lload 5, 2) := dk_22 5 (dk_at dksX4_heat_2 15 rfl rfl)
theorem dX4_heat_65 : decode cX4_heat 65 = .ok (.lload 7, 2) := dk_22 7 (dk_at dksX4_heat_2 17 rfl rfl)
theorem dX4_heat_67 : decode cX4_heat 67 = .ok (.ladd, 1) := dk_97 (dk_at dksX4_heat_2 19 rfl rfl)
theorem dX4_heat_68 : decode cX4_heat 68 = .ok (.ldc2_w 237, 3) := dk_20 0 237 (dk_at dksX4_heat_2 20 rfl rfl)
theorem dX4_heat_71 : decode cX4_heat 71 = .ok (.ldiv, 1) := dk_109 (dk_at dksX4_heat_2 23 rfl rfl)
theorem dX4_heat_72 : decode cX4_heat 72 = .ok (.lstore 9, 2) := dk_55 9 (dk_at dksX4_heat_3 0 rfl rfl)
theorem dX4_heat_74 : decode cX4_heat 74 = .ok (.aload_n 0, 1) := dk_42 (dk_at dksX4_heat_3 2 rfl rfl)
theorem dX4_heat_75 : decode cX4_heat 75 = .ok (.iload_n 2, 1) := dk_28 (dk_at dksX4_heat_3 3 rfl rfl)
theorem dX4_heat_76 : decode cX4_heat 76 = .ok (.iload 4, 2) := dk_21 4 (dk_at dksX4_heat_3 4 rfl rfl)
theorem dX4_heat_78 : decode cX4_heat 78 = .ok (.lload 9, 2) := dk_22 9 (dk_at dksX4_heat_3 6 rfl rfl)
theorem dX4_heat_80 : decode cX4_heat 80 = .ok (.invokevirtual 460, 3) := dk_182 1 204 (dk_at dksX4_heat_3 8 rfl rfl)
theorem dX4_heat_83 : decode cX4_heat 83 = .ok (.aload_n 0, 1) := dk_42 (dk_at dksX4_heat_3 11 rfl rfl)
theorem dX4_heat_84 : decode cX4_heat 84 = .ok (.getfield 9, 3) := dk_180 0 9 (dk_at dksX4_heat_3 12 rfl rfl)
theorem dX4_heat_87 : decode cX4_heat 87 = .ok (.iload_n 2, 1) := dk_28 (dk_at dksX4_heat_3 15 rfl rfl)
theorem dX4_heat_88 : decode cX4_heat 88 = .ok (.iconst 1, 1) := dk_4 (dk_at dksX4_heat_3 16 rfl rfl)
theorem dX4_heat_89 : decode cX4_heat 89 = .ok (.iadd, 1) := dk_96 (dk_at dksX4_heat_3 17 rfl rfl)
theorem dX4_heat_90 : decode cX4_heat 90 = .ok (.iconst 2, 1) := dk_5 (dk_at dksX4_heat_3 18 rfl rfl)
theorem dX4_heat_91 : decode cX4_heat 91 = .ok (.iload 4, 2) := dk_21 4 (dk_at dksX4_heat_3 19 rfl rfl)
theorem dX4_heat_93 : decode cX4_heat 93 = .ok (.imul, 1) := dk_104 (dk_at dksX4_heat_3 21 rfl rfl)
theorem dX4_heat_94 : decode cX4_heat 94 = .ok (.iadd, 1) := dk_96 (dk_at dksX4_heat_3 22 rfl rfl)
theorem dX4_heat_95 : decode cX4_heat 95 = .ok (.iaload, 1) := dk_46 (dk_at dksX4_heat_3 23 rfl rfl)
theorem dX4_heat_96 : decode cX4_heat 96 = .ok (.aload_n 0, 1) := dk_42 (dk_at dksX4_heat_4 0 rfl rfl)
theorem dX4_heat_97 : decode cX4_heat 97 = .ok (.getfield 143, 3) := dk_180 0 143 (dk_at dksX4_heat_4 1 rfl rfl)
theorem dX4_heat_100 : decode cX4_heat 100 = .ok (.invokestatic 449, 3) := dk_184 1 193 (dk_at dksX4_heat_4 4 rfl rfl)
theorem dX4_heat_103 : decode cX4_heat 103 = .ok (.lload 9, 2) := dk_22 9 (dk_at dksX4_heat_4 7 rfl rfl)
theorem dX4_heat_105 : decode cX4_heat 105 = .ok (.lsub, 1) := dk_101 (dk_at dksX4_heat_4 9 rfl rfl)
theorem dX4_heat_106 : decode cX4_heat 106 = .ok (.aload_n 0, 1) := dk_42 (dk_at dksX4_heat_4 10 rfl rfl)
theorem dX4_heat_107 : decode cX4_heat 107 = .ok (.getfield 9, 3) := dk_180 0 9 (dk_at dksX4_heat_4 11 rfl rfl)
theorem dX4_heat_110 : decode cX4_heat 110 = .ok (.iload_n 2, 1) := dk_28 (dk_at dksX4_heat_4 14 rfl rfl)
theorem dX4_heat_111 : decode cX4_heat 111 = .ok (.iconst 2, 1) := dk_5 (dk_at dksX4_heat_4 15 rfl rfl)
theorem dX4_heat_112 : decode cX4_heat 112 = .ok (.iadd, 1) := dk_96 (dk_at dksX4_heat_4 16 rfl rfl)
theorem dX4_heat_113 : decode cX4_heat 113 = .ok (.iconst 2, 1) := dk_5 (dk_at dksX4_heat_4 17 rfl rfl)
theorem dX4_heat_114 : decode cX4_heat 114 = .ok (.iload 4, 2) := dk_21 4 (dk_at dksX4_heat_4 18 rfl rfl)
theorem dX4_heat_116 : decode cX4_heat 116 = .ok (.imul, 1) := dk_104 (dk_at dksX4_heat_4 20 rfl rfl)
theorem dX4_heat_117 : decode cX4_heat 117 = .ok (.iadd, 1) := dk_96 (dk_at dksX4_heat_4 21 rfl rfl)
theorem dX4_heat_118 : decode cX4_heat 118 = .ok (.iaload, 1) := dk_46 (dk_at dksX4_heat_4 22 rfl rfl)
theorem dX4_heat_119 : decode cX4_heat 119 = .ok (.aload_n 0, 1) := dk_42 (dk_at dksX4_heat_4 23 rfl rfl)
theorem dX4_heat_120 : decode cX4_heat 120 = .ok (.getfield 140, 3) := dk_180 0 140 (dk_at dksX4_heat_5 0 rfl rfl)
theorem dX4_heat_123 : decode cX4_heat 123 = .ok (.invokestatic 453, 3) := dk_184 1 197 (dk_at dksX4_heat_5 3 rfl rfl)
theorem dX4_heat_126 : decode cX4_heat 126 = .ok (.lload 9, 2) := dk_22 9 (dk_at dksX4_heat_5 6 rfl rfl)
theorem dX4_heat_128 : decode cX4_heat 128 = .ok (.ladd, 1) := dk_97 (dk_at dksX4_heat_5 8 rfl rfl)
theorem dX4_heat_129 : decode cX4_heat 129 = .ok (.lcmp, 1) := dk_148 (dk_at dksX4_heat_5 9 rfl rfl)
theorem dX4_heat_130 : decode cX4_heat 130 = .ok (.ifCond .gt 7, 3) := dk_157 0 7 (dk_at dksX4_heat_5 10 rfl rfl)
theorem dX4_heat_133 : decode cX4_heat 133 = .ok (.iconst 1, 1) := dk_4 (dk_at dksX4_heat_5 13 rfl rfl)
theorem dX4_heat_134 : decode cX4_heat 134 = .ok (.goto 4, 3) := dk_167 0 4 (dk_at dksX4_heat_5 14 rfl rfl)
theorem dX4_heat_137 : decode cX4_heat 137 = .ok (.iconst 0, 1) := dk_3 (dk_at dksX4_heat_5 17 rfl rfl)
theorem dX4_heat_138 : decode cX4_heat 138 = .ok (.istore 11, 2) := dk_54 11 (dk_at dksX4_heat_5 18 rfl rfl)
theorem dX4_heat_140 : decode cX4_heat 140 = .ok (.iload 11, 2) := dk_21 11 (dk_at dksX4_heat_5 20 rfl rfl)
theorem dX4_heat_142 : decode cX4_heat 142 = .ok (.ifCond .eq 8, 3) := dk_153 0 8 (dk_at dksX4_heat_6 0 rfl rfl)
theorem dX4_heat_145 : decode cX4_heat 145 = .ok (.lload 5, 2) := dk_22 5 (dk_at dksX4_heat_6 3 rfl rfl)
theorem dX4_heat_147 : decode cX4_heat 147 = .ok (.goto 5, 3) := dk_167 0 5 (dk_at dksX4_heat_6 5 rfl rfl)
theorem dX4_heat_150 : decode cX4_heat 150 = .ok (.lload 9, 2) := dk_22 9 (dk_at dksX4_heat_6 8 rfl rfl)
theorem dX4_heat_152 : decode cX4_heat 152 = .ok (.lstore 5, 2) := dk_55 5 (dk_at dksX4_heat_6 10 rfl rfl)
theorem dX4_heat_154 : decode cX4_heat 154 = .ok (.iload 11, 2) := dk_21 11 (dk_at dksX4_heat_6 12 rfl rfl)
theorem dX4_heat_156 : decode cX4_heat 156 = .ok (.ifCond .eq 8, 3) := dk_153 0 8 (dk_at dksX4_heat_6 14 rfl rfl)
theorem dX4_heat_159 : decode cX4_heat 159 = .ok (.lload 9, 2) := dk_22 9 (dk_at dksX4_heat_6 17 rfl rfl)
theorem dX4_heat_161 : decode cX4_heat 161 = .ok (.goto 5, 3) := dk_167 0 5 (dk_at dksX4_heat_6 19 rfl rfl)
theorem dX4_heat_164 : decode cX4_heat 164 = .ok (.lload 7, 2) := dk_22 7 (dk_at dksX4_heat_6 22 rfl rfl)
theorem dX4_heat_166 : decode cX4_heat 166 = .ok (.lstore 7, 2) := dk_55 7 (dk_at dksX4_heat_7 0 rfl rfl)
theorem dX4_heat_168 : decode cX4_heat 168 = .ok (.goto (-115), 3) := dk_167 255 141 (dk_at dksX4_heat_7 2 rfl rfl)
theorem dX4_heat_171 : decode cX4_heat 171 = .ok (.aload_n 0, 1) := dk_42 (dk_at dksX4_heat_7 5 rfl rfl)
theorem dX4_heat_172 : decode cX4_heat 172 = .ok (.iload_n 2, 1) := dk_28 (dk_at dksX4_heat_7 6 rfl rfl)
theorem dX4_heat_173 : decode cX4_heat 173 = .ok (.iload 4, 2) := dk_21 4 (dk_at dksX4_heat_7 7 rfl rfl)
theorem dX4_heat_175 : decode cX4_heat 175 = .ok (.lload 7, 2) := dk_22 7 (dk_at dksX4_heat_7 9 rfl rfl)
theorem dX4_heat_177 : decode cX4_heat 177 = .ok (.invokevirtual 460, 3) := dk_182 1 204 (dk_at dksX4_heat_7 11 rfl rfl)
theorem dX4_heat_180 : decode cX4_heat 180 = .ok (.aload_n 0, 1) := dk_42 (dk_at dksX4_heat_7 14 rfl rfl)
theorem dX4_heat_181 : decode cX4_heat 181 = .ok (.getfield 134, 3) := dk_180 0 134 (dk_at dksX4_heat_7 15 rfl rfl)
theorem dX4_heat_184 : decode cX4_heat 184 = .ok (.iload 4, 2) := dk_21 4 (dk_at dksX4_heat_7 18 rfl rfl)
theorem dX4_heat_186 : decode cX4_heat 186 = .ok (.lload 7, 2) := dk_22 7 (dk_at dksX4_heat_7 20 rfl rfl)
theorem dX4_heat_188 : decode cX4_heat 188 = .ok (.lastore, 1) := dk_80 (dk_at dksX4_heat_7 22 rfl rfl)
theorem dX4_heat_189 : decode cX4_heat 189 = .ok (.aload_n 0, 1) := dk_42 (dk_at dksX4_heat_7 23 rfl rfl)
theorem dX4_heat_190 : decode cX4_heat 190 = .ok (.getfield 137, 3) := dk_180 0 137 (dk_at dksX4_heat_8 0 rfl rfl)
theorem dX4_heat_193 : decode cX4_heat 193 = .ok (.iload 4, 2) := dk_21 4 (dk_at dksX4_heat_8 3 rfl rfl)
theorem dX4_heat_195 : decode cX4_heat 195 = .ok (.aload_n 0, 1) := dk_42 (dk_at dksX4_heat_8 5 rfl rfl)
theorem dX4_heat_196 : decode cX4_heat 196 = .ok (.getfield 9, 3) := dk_180 0 9 (dk_at dksX4_heat_8 6 rfl rfl)
theorem dX4_heat_199 : decode cX4_heat 199 = .ok (.iload_n 2, 1) := dk_28 (dk_at dksX4_heat_8 9 rfl rfl)
theorem dX4_heat_200 : decode cX4_heat 200 = .ok (.iconst 1, 1) := dk_4 (dk_at dksX4_heat_8 10 rfl rfl)
theorem dX4_heat_201 : decode cX4_heat 201 = .ok (.iadd, 1) := dk_96 (dk_at dksX4_heat_8 11 rfl rfl)
theorem dX4_heat_202 : decode cX4_heat 202 = .ok (.iconst 2, 1) := dk_5 (dk_at dksX4_heat_8 12 rfl rfl)
theorem dX4_heat_203 : decode cX4_heat 203 = .ok (.iload 4, 2) := dk_21 4 (dk_at dksX4_heat_8 13 rfl rfl)
theorem dX4_heat_205 : decode cX4_heat 205 = .ok (.imul, 1) := dk_104 (dk_at dksX4_heat_8 15 rfl rfl)
theorem dX4_heat_206 : decode cX4_heat 206 = .ok (.iadd, 1) := dk_96 (dk_at dksX4_heat_8 16 rfl rfl)
theorem dX4_heat_207 : decode cX4_heat 207 = .ok (.iaload, 1) := dk_46 (dk_at dksX4_heat_8 17 rfl rfl)
theorem dX4_heat_208 : decode cX4_heat 208 = .ok (.aload_n 0, 1) := dk_42 (dk_at dksX4_heat_8 18 rfl rfl)
theorem dX4_heat_209 : decode cX4_heat 209 = .ok (.getfield 143, 3) := dk_180 0 143 (dk_at dksX4_heat_8 19 rfl rfl)
theorem dX4_heat_212 : decode cX4_heat 212 = .ok (.invokestatic 449, 3) := dk_184 1 193 (dk_at dksX4_heat_9 0 rfl rfl)
theorem dX4_heat_215 : decode cX4_heat 215 = .ok (.lload 7, 2) := dk_22 7 (dk_at dksX4_heat_9 3 rfl rfl)
theorem dX4_heat_217 : decode cX4_heat 217 = .ok (.lsub, 1) := dk_101 (dk_at dksX4_heat_9 5 rfl rfl)
theorem dX4_heat_218 : decode cX4_heat 218 = .ok (.lastore, 1) := dk_80 (dk_at dksX4_heat_9 6 rfl rfl)
theorem dX4_heat_219 : decode cX4_heat 219 = .ok (.iinc 4 1, 3) := dk_132 4 1 (dk_at dksX4_heat_9 7 rfl rfl)
theorem dX4_heat_222 : decode cX4_heat 222 = .ok (.goto (-204), 3) := dk_167 255 52 (dk_at dksX4_heat_9 10 rfl rfl)
theorem dX4_heat_225 : decode cX4_heat 225 = .ok (.return_, 1) := dk_177 (dk_at dksX4_heat_9 13 rfl rfl)
abbrev cX4_layWalls : ByteArray := prog_18_method_108_code
def yX4_layWalls : MethodName := ⟨RX4, "layWalls", "(IIJ)V"⟩
def dkwX4_layWalls_6 : List UInt8 := [132, 5, 1, 167, 255, 116, 177]
abbrev dktX4_layWalls_6 : List UInt8 := dkwX4_layWalls_6 ++ []
def dkwX4_layWalls_5 : List UInt8 := [180, 0, 9, 27, 5, 96, 5, 21, 5, 104, 96, 46, 42, 180, 0, 140, 184, 1, 197, 33, 97, 80]
abbrev dktX4_layWalls_5 : List UInt8 := dkwX4_layWalls_5 ++ dktX4_layWalls_6
def dkwX4_layWalls_4 : List UInt8 := [21, 5, 104, 96, 46, 42, 180, 0, 143, 184, 1, 193, 33, 101, 80, 42, 180, 0, 143, 21, 5, 42]
abbrev dktX4_layWalls_4 : List UInt8 := dkwX4_layWalls_4 ++ dktX4_layWalls_5
def dkwX4_layWalls_3 : List UInt8 := [180, 0, 140, 21, 5, 47, 80, 167, 0, 61, 42, 180, 0, 140, 21, 5, 42, 180, 0, 9, 27, 4, 96, 5]
abbrev dktX4_layWalls_3 : List UInt8 := dkwX4_layWalls_3 ++ dktX4_layWalls_4
def dkwX4_layWalls_2 : List UInt8 := [180, 0, 85, 21, 5, 47, 167, 0, 10, 42, 180, 0, 137, 21, 5, 47, 80, 42, 180, 0, 143, 21, 5, 42]
abbrev dktX4_layWalls_2 : List UInt8 := dkwX4_layWalls_2 ++ dktX4_layWalls_3
def dkwX4_layWalls_1 : List UInt8 := [21, 5, 47, 148, 158, 0, 54, 42, 180, 0, 140, 21, 5, 42, 180, 0, 89, 21, 5, 51, 153, 0, 13, 42]
abbrev dktX4_layWalls_1 : List UInt8 := dkwX4_layWalls_1 ++ dktX4_layWalls_2
def dkwX4_layWalls_0 : List UInt8 := [3, 54, 5, 21, 5, 28, 162, 0, 140, 42, 180, 0, 89, 21, 5, 51, 154, 0, 15, 33, 42, 180, 0, 134]
abbrev dktX4_layWalls_0 : List UInt8 := dkwX4_layWalls_0 ++ dktX4_layWalls_1
theorem dksX4_layWalls_0 : cX4_layWalls.data.toList.drop 0 = dktX4_layWalls_0 := by decide +kernel
theorem dksX4_layWalls_1 : cX4_layWalls.data.toList.drop 24 = dktX4_layWalls_1 := dk_seg dksX4_layWalls_0 24 rfl rfl
theorem dksX4_layWalls_2 : cX4_layWalls.data.toList.drop 48 = dktX4_layWalls_2 := dk_seg dksX4_layWalls_1 24 rfl rfl
theorem dksX4_layWalls_3 : cX4_layWalls.data.toList.drop 72 = dktX4_layWalls_3 := dk_seg dksX4_layWalls_2 24 rfl rfl
theorem dksX4_layWalls_4 : cX4_layWalls.data.toList.drop 96 = dktX4_layWalls_4 := dk_seg dksX4_layWalls_3 24 rfl rfl
theorem dksX4_layWalls_5 : cX4_layWalls.data.toList.drop 118 = dktX4_layWalls_5 := dk_seg dksX4_layWalls_4 22 rfl rfl
theorem dksX4_layWalls_6 : cX4_layWalls.data.toList.drop 140 = dktX4_layWalls_6 := dk_seg dksX4_layWalls_5 22 rfl rfl
theorem dX4_layWalls_0 : decode cX4_layWalls 0 = .ok (.iconst 0, 1) := dk_3 (dk_at dksX4_layWalls_0 0 rfl rfl)
theorem dX4_layWalls_1 : decode cX4_layWalls 1 = .ok (.istore 5, 2) := dk_54 5 (dk_at dksX4_layWalls_0 1 rfl rfl)
theorem dX4_layWalls_3 : decode cX4_layWalls 3 = .ok (.iload 5, 2) := dk_21 5 (dk_at dksX4_layWalls_0 3 rfl rfl)
theorem dX4_layWalls_5 : decode cX4_layWalls 5 = .ok (.iload_n 2, 1) := dk_28 (dk_at dksX4_layWalls_0 5 rfl rfl)
theorem dX4_layWalls_6 : decode cX4_layWalls 6 = .ok (.if_icmp .ge 140, 3) := dk_162 0 140 (dk_at dksX4_layWalls_0 6 rfl rfl)
theorem dX4_layWalls_9 : decode cX4_layWalls 9 = .ok (.aload_n 0, 1) := dk_42 (dk_at dksX4_layWalls_0 9 rfl rfl)
theorem dX4_layWalls_10 : decode cX4_layWalls 10 = .ok (.getfield 89, 3) := dk_180 0 89 (dk_at dksX4_layWalls_0 10 rfl rfl)
theorem dX4_layWalls_13 : decode cX4_layWalls 13 = .ok (.iload 5, 2) := dk_21 5 (dk_at dksX4_layWalls_0 13 rfl rfl)
theorem dX4_layWalls_15 : decode cX4_layWalls 15 = .ok (.baload, 1) := dk_51 (dk_at dksX4_layWalls_0 15 rfl rfl)
theorem dX4_layWalls_16 : decode cX4_layWalls 16 = .ok (.ifCond .ne 15, 3) := dk_154 0 15 (dk_at dksX4_layWalls_0 16 rfl rfl)
theorem dX4_layWalls_19 : decode cX4_layWalls 19 = .ok (.lload_n 3, 1) := dk_33 (dk_at dksX4_layWalls_0 19 rfl rfl)
theorem dX4_layWalls_20 : decode cX4_layWalls 20 = .ok (.aload_n 0, 1) := dk_42 (dk_at dksX4_layWalls_0 20 rfl rfl)
theorem dX4_layWalls_21 : decode cX4_layWalls 21 = .ok (.getfield 134, 3) := dk_180 0 134 (dk_at dksX4_layWalls_0 21 rfl rfl)
theorem dX4_layWalls_24 : decode cX4_layWalls 24 = .ok (.iload 5, 2) := dk_21 5 (dk_at dksX4_layWalls_1 0 rfl rfl)
theorem dX4_layWalls_26 : decode cX4_layWalls 26 = .ok (.laload, 1) := dk_47 (dk_at dksX4_layWalls_1 2 rfl rfl)
theorem dX4_layWalls_27 : decode cX4_layWalls 27 = .ok (.lcmp, 1) := dk_148 (dk_at dksX4_layWalls_1 3 rfl rfl)
theorem dX4_layWalls_28 : decode cX4_layWalls 28 = .ok (.ifCond .le 54, 3) := dk_158 0 54 (dk_at dksX4_layWalls_1 4 rfl rfl)
theorem dX4_layWalls_31 : decode cX4_layWalls 31 = .ok (.aload_n 0, 1) := dk_42 (dk_at dksX4_layWalls_1 7 rfl rfl)
theorem dX4_layWalls_32 : decode cX4_layWalls 32 = .ok (.getfield 140, 3) := dk_180 0 140 (dk_at dksX4_layWalls_1 8 rfl rfl)
theorem dX4_layWalls_35 : decode cX4_layWalls 35 = .ok (.iload 5, 2) := dk_21 5 (dk_at dksX4_layWalls_1 11 rfl rfl)
theorem dX4_layWalls_37 : decode cX4_layWalls 37 = .ok (.aload_n 0, 1) := dk_42 (dk_at dksX4_layWalls_1 13 rfl rfl)
theorem dX4_layWalls_38 : decode cX4_layWalls 38 = .ok (.getfield 89, 3) := dk_180 0 89 (dk_at dksX4_layWalls_1 14 rfl rfl)
theorem dX4_layWalls_41 : decode cX4_layWalls 41 = .ok (.iload 5, 2) := dk_21 5 (dk_at dksX4_layWalls_1 17 rfl rfl)
theorem dX4_layWalls_43 : decode cX4_layWalls 43 = .ok (.baload, 1) := dk_51 (dk_at dksX4_layWalls_1 19 rfl rfl)
theorem dX4_layWalls_44 : decode cX4_layWalls 44 = .ok (.ifCond .eq 13, 3) := dk_153 0 13 (dk_at dksX4_layWalls_1 20 rfl rfl)
theorem dX4_layWalls_47 : decode cX4_layWalls 47 = .ok (.aload_n 0, 1) := dk_42 (dk_at dksX4_layWalls_1 23 rfl rfl)
theorem dX4_layWalls_48 : decode cX4_layWalls 48 = .ok (.getfield 85, 3) := dk_180 0 85 (dk_at dksX4_layWalls_2 0 rfl rfl)
theorem dX4_layWalls_51 : decode cX4_layWalls 51 = .ok (.iload 5, 2) := dk_21 5 (dk_at dksX4_layWalls_2 3 rfl rfl)
theorem dX4_layWalls_53 : decode cX4_layWalls 53 = .ok (.laload, 1) := dk_47 (dk_at dksX4_layWalls_2 5 rfl rfl)
theorem dX4_layWalls_54 : decode cX4_layWalls 54 = .ok (.goto 10, 3) := dk_167 0 10 (dk_at dksX4_layWalls_2 6 rfl rfl)
theorem dX4_layWalls_57 : decode cX4_layWalls 57 = .ok (.aload_n 0, 1) := dk_42 (dk_at dksX4_layWalls_2 9 rfl rfl)
theorem dX4_layWalls_58 : decode cX4_layWalls 58 = .ok (.getfield 137, 3) := dk_180 0 137 (dk_at dksX4_layWalls_2 10 rfl rfl)
theorem dX4_layWalls_61 : decode cX4_layWalls 61 = .ok (.iload 5, 2) := dk_21 5 (dk_at dksX4_layWalls_2 13 rfl rfl)
theorem dX4_layWalls_63 : decode cX4_layWalls 63 = .ok (.laload, 1) := dk_47 (dk_at dksX4_layWalls_2 15 rfl rfl)
theorem dX4_layWalls_64 : decode cX4_layWalls 64 = .ok (.lastore, 1) := dk_80 (dk_at dksX4_layWalls_2 16 rfl rfl)
theorem dX4_layWalls_65 : decode cX4_layWalls 65 = .ok (.aload_n 0, 1) := dk_42 (dk_at dksX4_layWalls_2 17 rfl rfl)
theorem dX4_layWalls_66 : decode cX4_layWalls 66 = .ok (.getfield 143, 3) := dk_180 0 143 (dk_at dksX4_layWalls_2 18 rfl rfl)
theorem dX4_layWalls_69 : decode cX4_layWalls 69 = .ok (.iload 5, 2) := dk_21 5 (dk_at dksX4_layWalls_2 21 rfl rfl)
theorem dX4_layWalls_71 : decode cX4_layWalls 71 = .ok (.aload_n 0, 1) := dk_42 (dk_at dksX4_layWalls_2 23 rfl rfl)
theorem dX4_layWalls_72 : decode cX4_layWalls 72 = .ok (.getfield 140, 3) := dk_180 0 140 (dk_at dksX4_layWalls_3 0 rfl rfl)
theorem dX4_layWalls_75 : decode cX4_layWalls 75 = .ok (.iload 5, 2) := dk_21 5 (dk_at dksX4_layWalls_3 3 rfl rfl)
theorem dX4_layWalls_77 : decode cX4_layWalls 77 = .ok (.laload, 1) := dk_47 (dk_at dksX4_layWalls_3 5 rfl rfl)
theorem dX4_layWalls_78 : decode cX4_layWalls 78 = .ok (.lastore, 1) := dk_80 (dk_at dksX4_layWalls_3 6 rfl rfl)
theorem dX4_layWalls_79 : decode cX4_layWalls 79 = .ok (.goto 61, 3) := dk_167 0 61 (dk_at dksX4_layWalls_3 7 rfl rfl)
theorem dX4_layWalls_82 : decode cX4_layWalls 82 = .ok (.aload_n 0, 1) := dk_42 (dk_at dksX4_layWalls_3 10 rfl rfl)
theorem dX4_layWalls_83 : decode cX4_layWalls 83 = .ok (.getfield 140, 3) := dk_180 0 140 (dk_at dksX4_layWalls_3 11 rfl rfl)
theorem dX4_layWalls_86 : decode cX4_layWalls 86 = .ok (.iload 5, 2) := dk_21 5 (dk_at dksX4_layWalls_3 14 rfl rfl)
theorem dX4_layWalls_88 : decode cX4_layWalls 88 = .ok (.aload_n 0, 1) := dk_42 (dk_at dksX4_layWalls_3 16 rfl rfl)
theorem dX4_layWalls_89 : decode cX4_layWalls 89 = .ok (.getfield 9, 3) := dk_180 0 9 (dk_at dksX4_layWalls_3 17 rfl rfl)
theorem dX4_layWalls_92 : decode cX4_layWalls 92 = .ok (.iload_n 1, 1) := dk_27 (dk_at dksX4_layWalls_3 20 rfl rfl)
theorem dX4_layWalls_93 : decode cX4_layWalls 93 = .ok (.iconst 1, 1) := dk_4 (dk_at dksX4_layWalls_3 21 rfl rfl)
theorem dX4_layWalls_94 : decode cX4_layWalls 94 = .ok (.iadd, 1) := dk_96 (dk_at dksX4_layWalls_3 22 rfl rfl)
theorem dX4_layWalls_95 : decode cX4_layWalls 95 = .ok (.iconst 2, 1) := dk_5 (dk_at dksX4_layWalls_3 23 rfl rfl)
theorem dX4_layWalls_96 : decode cX4_layWalls 96 = .ok (.iload 5, 2) := dk_21 5 (dk_at dksX4_layWalls_4 0 rfl rfl)
theorem dX4_layWalls_98 : decode cX4_layWalls 98 = .ok (.imul, 1) := dk_104 (dk_at dksX4_layWalls_4 2 rfl rfl)
theorem dX4_layWalls_99 : decode cX4_layWalls 99 = .ok (.iadd, 1) := dk_96 (dk_at dksX4_layWalls_4 3 rfl rfl)
theorem dX4_layWalls_100 : decode cX4_layWalls 100 = .ok (.iaload, 1) := dk_46 (dk_at dksX4_layWalls_4 4 rfl rfl)
theorem dX4_layWalls_101 : decode cX4_layWalls 101 = .ok (.aload_n 0, 1) := dk_42 (dk_at dksX4_layWalls_4 5 rfl rfl)
theorem dX4_layWalls_102 : decode cX4_layWalls 102 = .ok (.getfield 143, 3) := dk_180 0 143 (dk_at dksX4_layWalls_4 6 rfl rfl)
theorem dX4_layWalls_105 : decode cX4_layWalls 105 = .ok (.invokestatic 449, 3) := dk_184 1 193 (dk_at dksX4_layWalls_4 9 rfl rfl)
theorem dX4_layWalls_108 : decode cX4_layWalls 108 = .ok (.lload_n 3, 1) := dk_33 (dk_at dksX4_layWalls_4 12 rfl rfl)
theorem dX4_layWalls_109 : decode cX4_layWalls 109 = .ok (.lsub, 1) := dk_101 (dk_at dksX4_layWalls_4 13 rfl rfl)
theorem dX4_layWalls_110 : decode cX4_layWalls 110 = .ok (.lastore, 1) := dk_80 (dk_at dksX4_layWalls_4 14 rfl rfl)
theorem dX4_layWalls_111 : decode cX4_layWalls 111 = .ok (.aload_n 0, 1) := dk_42 (dk_at dksX4_layWalls_4 15 rfl rfl)
theorem dX4_layWalls_112 : decode cX4_layWalls 112 = .ok (.getfield 143, 3) := dk_180 0 143 (dk_at dksX4_layWalls_4 16 rfl rfl)
theorem dX4_layWalls_115 : decode cX4_layWalls 115 = .ok (.iload 5, 2) := dk_21 5 (dk_at dksX4_layWalls_4 19 rfl rfl)
theorem dX4_layWalls_117 : decode cX4_layWalls 117 = .ok (.aload_n 0, 1) := dk_42 (dk_at dksX4_layWalls_4 21 rfl rfl)
theorem dX4_layWalls_118 : decode cX4_layWalls 118 = .ok (.getfield 9, 3) := dk_180 0 9 (dk_at dksX4_layWalls_5 0 rfl rfl)
theorem dX4_layWalls_121 : decode cX4_layWalls 121 = .ok (.iload_n 1, 1) := dk_27 (dk_at dksX4_layWalls_5 3 rfl rfl)
theorem dX4_layWalls_122 : decode cX4_layWalls 122 = .ok (.iconst 2, 1) := dk_5 (dk_at dksX4_layWalls_5 4 rfl rfl)
theorem dX4_layWalls_123 : decode cX4_layWalls 123 = .ok (.iadd, 1) := dk_96 (dk_at dksX4_layWalls_5 5 rfl rfl)
theorem dX4_layWalls_124 : decode cX4_layWalls 124 = .ok (.iconst 2, 1) := dk_5 (dk_at dksX4_layWalls_5 6 rfl rfl)
theorem dX4_layWalls_125 : decode cX4_layWalls 125 = .ok (.iload 5, 2) := dk_21 5 (dk_at dksX4_layWalls_5 7 rfl rfl)
theorem dX4_layWalls_127 : decode cX4_layWalls 127 = .ok (.imul, 1) := dk_104 (dk_at dksX4_layWalls_5 9 rfl rfl)
theorem dX4_layWalls_128 : decode cX4_layWalls 128 = .ok (.iadd, 1) := dk_96 (dk_at dksX4_layWalls_5 10 rfl rfl)
theorem dX4_layWalls_129 : decode cX4_layWalls 129 = .ok (.iaload, 1) := dk_46 (dk_at dksX4_layWalls_5 11 rfl rfl)
theorem dX4_layWalls_130 : decode cX4_layWalls 130 = .ok (.aload_n 0, 1) := dk_42 (dk_at dksX4_layWalls_5 12 rfl rfl)
theorem dX4_layWalls_131 : decode cX4_layWalls 131 = .ok (.getfield 140, 3) := dk_180 0 140 (dk_at dksX4_layWalls_5 13 rfl rfl)
theorem dX4_layWalls_134 : decode cX4_layWalls 134 = .ok (.invokestatic 453, 3) := dk_184 1 197 (dk_at dksX4_layWalls_5 16 rfl rfl)
theorem dX4_layWalls_137 : decode cX4_layWalls 137 = .ok (.lload_n 3, 1) := dk_33 (dk_at dksX4_layWalls_5 19 rfl rfl)
theorem dX4_layWalls_138 : decode cX4_layWalls 138 = .ok (.ladd, 1) := dk_97 (dk_at dksX4_layWalls_5 20 rfl rfl)
theorem dX4_layWalls_139 : decode cX4_layWalls 139 = .ok (.lastore, 1) := dk_80 (dk_at dksX4_layWalls_5 21 rfl rfl)
theorem dX4_layWalls_140 : decode cX4_layWalls 140 = .ok (.iinc 5 1, 3) := dk_132 5 1 (dk_at dksX4_layWalls_6 0 rfl rfl)
theorem dX4_layWalls_143 : decode cX4_layWalls 143 = .ok (.goto (-140), 3) := dk_167 255 116 (dk_at dksX4_layWalls_6 3 rfl rfl)
theorem dX4_layWalls_146 : decode cX4_layWalls 146 = .ok (.return_, 1) := dk_177 (dk_at dksX4_layWalls_6 6 rfl rfl)
abbrev cX4_most : ByteArray := prog_18_method_106_code
def yX4_most : MethodName := ⟨RX4, "most", "(I[J)J"⟩
def dkwX4_most_2 : List UInt8 := [32, 173]
abbrev dktX4_most_2 : List UInt8 := dkwX4_most_2 ++ []
def dkwX4_most_1 : List UInt8 := [43, 21, 4, 47, 32, 148, 158, 0, 10, 43, 21, 4, 47, 167, 0, 4, 32, 65, 132, 4, 1, 167, 255, 218]
abbrev dktX4_most_1 : List UInt8 := dkwX4_most_1 ++ dktX4_most_2
def dkwX4_most_0 : List UInt8 := [20, 1, 98, 65, 3, 54, 4, 21, 4, 16, 32, 162, 0, 37, 26, 21, 4, 122, 4, 126, 4, 160, 0, 19]
abbrev dktX4_most_0 : List UInt8 := dkwX4_most_0 ++ dktX4_most_1
theorem dksX4_most_0 : cX4_most.data.toList.drop 0 = dktX4_most_0 := by decide +kernel
theorem dksX4_most_1 : cX4_most.data.toList.drop 24 = dktX4_most_1 := dk_seg dksX4_most_0 24 rfl rfl
theorem dksX4_most_2 : cX4_most.data.toList.drop 48 = dktX4_most_2 := dk_seg dksX4_most_1 24 rfl rfl
theorem dX4_most_0 : decode cX4_most 0 = .ok (.ldc2_w 354, 3) := dk_20 1 98 (dk_at dksX4_most_0 0 rfl rfl)
theorem dX4_most_3 : decode cX4_most 3 = .ok (.lstore_n 2, 1) := dk_65 (dk_at dksX4_most_0 3 rfl rfl)
theorem dX4_most_4 : decode cX4_most 4 = .ok (.iconst 0, 1) := dk_3 (dk_at dksX4_most_0 4 rfl rfl)
theorem dX4_most_5 : decode cX4_most 5 = .ok (.istore 4, 2) := dk_54 4 (dk_at dksX4_most_0 5 rfl rfl)
theorem dX4_most_7 : decode cX4_most 7 = .ok (.iload 4, 2) := dk_21 4 (dk_at dksX4_most_0 7 rfl rfl)
theorem dX4_most_9 : decode cX4_most 9 = .ok (.bipush 32, 2) := dk_16 32 (dk_at dksX4_most_0 9 rfl rfl)
theorem dX4_most_11 : decode cX4_most 11 = .ok (.if_icmp .ge 37, 3) := dk_162 0 37 (dk_at dksX4_most_0 11 rfl rfl)
theorem dX4_most_14 : decode cX4_most 14 = .ok (.iload_n 0, 1) := dk_26 (dk_at dksX4_most_0 14 rfl rfl)
theorem dX4_most_15 : decode cX4_most 15 = .ok (.iload 4, 2) := dk_21 4 (dk_at dksX4_most_0 15 rfl rfl)
theorem dX4_most_17 : decode cX4_most 17 = .ok (.ishr, 1) := dk_122 (dk_at dksX4_most_0 17 rfl rfl)
theorem dX4_most_18 : decode cX4_most 18 = .ok (.iconst 1, 1) := dk_4 (dk_at dksX4_most_0 18 rfl rfl)
theorem dX4_most_19 : decode cX4_most 19 = .ok (.iand, 1) := dk_126 (dk_at dksX4_most_0 19 rfl rfl)
theorem dX4_most_20 : decode cX4_most 20 = .ok (.iconst 1, 1) := dk_4 (dk_at dksX4_most_0 20 rfl rfl)
theorem dX4_most_21 : decode cX4_most 21 = .ok (.if_icmp .ne 19, 3) := dk_160 0 19 (dk_at dksX4_most_0 21 rfl rfl)
theorem dX4_most_24 : decode cX4_most 24 = .ok (.aload_n 1, 1) := dk_43 (dk_at dksX4_most_1 0 rfl rfl)
theorem dX4_most_25 : decode cX4_most 25 = .ok (.iload 4, 2) := dk_21 4 (dk_at dksX4_most_1 1 rfl rfl)
theorem dX4_most_27 : decode cX4_most 27 = .ok (.laload, 1) := dk_47 (dk_at dksX4_most_1 3 rfl rfl)
theorem dX4_most_28 : decode cX4_most 28 = .ok (.lload_n 2, 1) := dk_32 (dk_at dksX4_most_1 4 rfl rfl)
theorem dX4_most_29 : decode cX4_most 29 = .ok (.lcmp, 1) := dk_148 (dk_at dksX4_most_1 5 rfl rfl)
theorem dX4_most_30 : decode cX4_most 30 = .ok (.ifCond .le 10, 3) := dk_158 0 10 (dk_at dksX4_most_1 6 rfl rfl)
theorem dX4_most_33 : decode cX4_most 33 = .ok (.aload_n 1, 1) := dk_43 (dk_at dksX4_most_1 9 rfl rfl)
theorem dX4_most_34 : decode cX4_most 34 = .ok (.iload 4, 2) := dk_21 4 (dk_at dksX4_most_1 10 rfl rfl)
theorem dX4_most_36 : decode cX4_most 36 = .ok (.laload, 1) := dk_47 (dk_at dksX4_most_1 12 rfl rfl)
theorem dX4_most_37 : decode cX4_most 37 = .ok (.goto 4, 3) := dk_167 0 4 (dk_at dksX4_most_1 13 rfl rfl)
theorem dX4_most_40 : decode cX4_most 40 = .ok (.lload_n 2, 1) := dk_32 (dk_at dksX4_most_1 16 rfl rfl)
theorem dX4_most_41 : decode cX4_most 41 = .ok (.lstore_n 2, 1) := dk_65 (dk_at dksX4_most_1 17 rfl rfl)
theorem dX4_most_42 : decode cX4_most 42 = .ok (.iinc 4 1, 3) := dk_132 4 1 (dk_at dksX4_most_1 18 rfl rfl)
theorem dX4_most_45 : decode cX4_most 45 = .ok (.goto (-38), 3) := dk_167 255 218 (dk_at dksX4_most_1 21 rfl rfl)
theorem dX4_most_48 : decode cX4_most 48 = .ok (.lload_n 2, 1) := dk_32 (dk_at dksX4_most_2 0 rfl rfl)
theorem dX4_most_49 : decode cX4_most 49 = .ok (.lreturn, 1) := dk_173 (dk_at dksX4_most_2 1 rfl rfl)
abbrev cX4_least : ByteArray := prog_18_method_107_code
def yX4_least : MethodName := ⟨RX4, "least", "(I[J)J"⟩
def dkwX4_least_2 : List UInt8 := [32, 173]
abbrev dktX4_least_2 : List UInt8 := dkwX4_least_2 ++ []
def dkwX4_least_1 : List UInt8 := [43, 21, 4, 47, 32, 148, 156, 0, 10, 43, 21, 4, 47, 167, 0, 4, 32, 65, 132, 4, 1, 167, 255, 218]
abbrev dktX4_least_1 : List UInt8 := dkwX4_least_1 ++ dktX4_least_2
def dkwX4_least_0 : List UInt8 := [20, 1, 100, 65, 3, 54, 4, 21, 4, 16, 32, 162, 0, 37, 26, 21, 4, 122, 4, 126, 4, 160, 0, 19]
abbrev dktX4_least_0 : List UInt8 := dkwX4_least_0 ++ dktX4_least_1
theorem dksX4_least_0 : cX4_least.data.toList.drop 0 = dktX4_least_0 := by decide +kernel
theorem dksX4_least_1 : cX4_least.data.toList.drop 24 = dktX4_least_1 := dk_seg dksX4_least_0 24 rfl rfl
theorem dksX4_least_2 : cX4_least.data.toList.drop 48 = dktX4_least_2 := dk_seg dksX4_least_1 24 rfl rfl
theorem dX4_least_0 : decode cX4_least 0 = .ok (.ldc2_w 356, 3) := dk_20 1 100 (dk_at dksX4_least_0 0 rfl rfl)
theorem dX4_least_3 : decode cX4_least 3 = .ok (.lstore_n 2, 1) := dk_65 (dk_at dksX4_least_0 3 rfl rfl)
theorem dX4_least_4 : decode cX4_least 4 = .ok (.iconst 0, 1) := dk_3 (dk_at dksX4_least_0 4 rfl rfl)
theorem dX4_least_5 : decode cX4_least 5 = .ok (.istore 4, 2) := dk_54 4 (dk_at dksX4_least_0 5 rfl rfl)
theorem dX4_least_7 : decode cX4_least 7 = .ok (.iload 4, 2) := dk_21 4 (dk_at dksX4_least_0 7 rfl rfl)
theorem dX4_least_9 : decode cX4_least 9 = .ok (.bipush 32, 2) := dk_16 32 (dk_at dksX4_least_0 9 rfl rfl)
theorem dX4_least_11 : decode cX4_least 11 = .ok (.if_icmp .ge 37, 3) := dk_162 0 37 (dk_at dksX4_least_0 11 rfl rfl)
theorem dX4_least_14 : decode cX4_least 14 = .ok (.iload_n 0, 1) := dk_26 (dk_at dksX4_least_0 14 rfl rfl)
theorem dX4_least_15 : decode cX4_least 15 = .ok (.iload 4, 2) := dk_21 4 (dk_at dksX4_least_0 15 rfl rfl)
theorem dX4_least_17 : decode cX4_least 17 = .ok (.ishr, 1) := dk_122 (dk_at dksX4_least_0 17 rfl rfl)
theorem dX4_least_18 : decode cX4_least 18 = .ok (.iconst 1, 1) := dk_4 (dk_at dksX4_least_0 18 rfl rfl)
theorem dX4_least_19 : decode cX4_least 19 = .ok (.iand, 1) := dk_126 (dk_at dksX4_least_0 19 rfl rfl)
theorem dX4_least_20 : decode cX4_least 20 = .ok (.iconst 1, 1) := dk_4 (dk_at dksX4_least_0 20 rfl rfl)
theorem dX4_least_21 : decode cX4_least 21 = .ok (.if_icmp .ne 19, 3) := dk_160 0 19 (dk_at dksX4_least_0 21 rfl rfl)
theorem dX4_least_24 : decode cX4_least 24 = .ok (.aload_n 1, 1) := dk_43 (dk_at dksX4_least_1 0 rfl rfl)
theorem dX4_least_25 : decode cX4_least 25 = .ok (.iload 4, 2) := dk_21 4 (dk_at dksX4_least_1 1 rfl rfl)
theorem dX4_least_27 : decode cX4_least 27 = .ok (.laload, 1) := dk_47 (dk_at dksX4_least_1 3 rfl rfl)
theorem dX4_least_28 : decode cX4_least 28 = .ok (.lload_n 2, 1) := dk_32 (dk_at dksX4_least_1 4 rfl rfl)
theorem dX4_least_29 : decode cX4_least 29 = .ok (.lcmp, 1) := dk_148 (dk_at dksX4_least_1 5 rfl rfl)
theorem dX4_least_30 : decode cX4_least 30 = .ok (.ifCond .ge 10, 3) := dk_156 0 10 (dk_at dksX4_least_1 6 rfl rfl)
theorem dX4_least_33 : decode cX4_least 33 = .ok (.aload_n 1, 1) := dk_43 (dk_at dksX4_least_1 9 rfl rfl)
theorem dX4_least_34 : decode cX4_least 34 = .ok (.iload 4, 2) := dk_21 4 (dk_at dksX4_least_1 10 rfl rfl)
theorem dX4_least_36 : decode cX4_least 36 = .ok (.laload, 1) := dk_47 (dk_at dksX4_least_1 12 rfl rfl)
theorem dX4_least_37 : decode cX4_least 37 = .ok (.goto 4, 3) := dk_167 0 4 (dk_at dksX4_least_1 13 rfl rfl)
theorem dX4_least_40 : decode cX4_least 40 = .ok (.lload_n 2, 1) := dk_32 (dk_at dksX4_least_1 16 rfl rfl)
theorem dX4_least_41 : decode cX4_least 41 = .ok (.lstore_n 2, 1) := dk_65 (dk_at dksX4_least_1 17 rfl rfl)
theorem dX4_least_42 : decode cX4_least 42 = .ok (.iinc 4 1, 3) := dk_132 4 1 (dk_at dksX4_least_1 18 rfl rfl)
theorem dX4_least_45 : decode cX4_least 45 = .ok (.goto (-38), 3) := dk_167 255 218 (dk_at dksX4_least_1 21 rfl rfl)
theorem dX4_least_48 : decode cX4_least 48 = .ok (.lload_n 2, 1) := dk_32 (dk_at dksX4_least_2 0 rfl rfl)
theorem dX4_least_49 : decode cX4_least 49 = .ok (.lreturn, 1) := dk_173 (dk_at dksX4_least_2 1 rfl rfl)
abbrev cX4_stop : ByteArray := prog_18_method_112_code
def yX4_stop : MethodName := ⟨RX4, "stop", "(III)I"⟩
def dkwX4_stop_1 : List UInt8 := [184, 0, 153, 153, 0, 17, 42, 27, 28, 9, 182, 1, 211, 29, 184, 1, 190, 167, 0, 6, 19, 1, 37, 172]
abbrev dktX4_stop_1 : List UInt8 := dkwX4_stop_1 ++ []
def dkwX4_stop_0 : List UInt8 := [42, 3, 181, 0, 146, 27, 184, 1, 34, 153, 0, 35, 28, 3, 4, 184, 0, 153, 153, 0, 26, 29, 3, 4]
abbrev dktX4_stop_0 : List UInt8 := dkwX4_stop_0 ++ dktX4_stop_1
theorem dksX4_stop_0 : cX4_stop.data.toList.drop 0 = dktX4_stop_0 := by decide +kernel
theorem dksX4_stop_1 : cX4_stop.data.toList.drop 24 = dktX4_stop_1 := dk_seg dksX4_stop_0 24 rfl rfl
theorem dX4_stop_0 : decode cX4_stop 0 = .ok (.aload_n 0, 1) := dk_42 (dk_at dksX4_stop_0 0 rfl rfl)
theorem dX4_stop_1 : decode cX4_stop 1 = .ok (.iconst 0, 1) := dk_3 (dk_at dksX4_stop_0 1 rfl rfl)
theorem dX4_stop_2 : decode cX4_stop 2 = .ok (.putfield 146, 3) := dk_181 0 146 (dk_at dksX4_stop_0 2 rfl rfl)
theorem dX4_stop_5 : decode cX4_stop 5 = .ok (.iload_n 1, 1) := dk_27 (dk_at dksX4_stop_0 5 rfl rfl)
theorem dX4_stop_6 : decode cX4_stop 6 = .ok (.invokestatic 290, 3) := dk_184 1 34 (dk_at dksX4_stop_0 6 rfl rfl)
theorem dX4_stop_9 : decode cX4_stop 9 = .ok (.ifCond .eq 35, 3) := dk_153 0 35 (dk_at dksX4_stop_0 9 rfl rfl)
theorem dX4_stop_12 : decode cX4_stop 12 = .ok (.iload_n 2, 1) := dk_28 (dk_at dksX4_stop_0 12 rfl rfl)
theorem dX4_stop_13 : decode cX4_stop 13 = .ok (.iconst 0, 1) := dk_3 (dk_at dksX4_stop_0 13 rfl rfl)
theorem dX4_stop_14 : decode cX4_stop 14 = .ok (.iconst 1, 1) := dk_4 (dk_at dksX4_stop_0 14 rfl rfl)
theorem dX4_stop_15 : decode cX4_stop 15 = .ok (.invokestatic 153, 3) := dk_184 0 153 (dk_at dksX4_stop_0 15 rfl rfl)
theorem dX4_stop_18 : decode cX4_stop 18 = .ok (.ifCond .eq 26, 3) := dk_153 0 26 (dk_at dksX4_stop_0 18 rfl rfl)
theorem dX4_stop_21 : decode cX4_stop 21 = .ok (.iload_n 3, 1) := dk_29 (dk_at dksX4_stop_0 21 rfl rfl)
theorem dX4_stop_22 : decode cX4_stop 22 = .ok (.iconst 0, 1) := dk_3 (dk_at dksX4_stop_0 22 rfl rfl)
theorem dX4_stop_23 : decode cX4_stop 23 = .ok (.iconst 1, 1) := dk_4 (dk_at dksX4_stop_0 23 rfl rfl)
theorem dX4_stop_24 : decode cX4_stop 24 = .ok (.invokestatic 153, 3) := dk_184 0 153 (dk_at dksX4_stop_1 0 rfl rfl)
theorem dX4_stop_27 : decode cX4_stop 27 = .ok (.ifCond .eq 17, 3) := dk_153 0 17 (dk_at dksX4_stop_1 3 rfl rfl)
theorem dX4_stop_30 : decode cX4_stop 30 = .ok (.aload_n 0, 1) := dk_42 (dk_at dksX4_stop_1 6 rfl rfl)
theorem dX4_stop_31 : decode cX4_stop 31 = .ok (.iload_n 1, 1) := dk_27 (dk_at dksX4_stop_1 7 rfl rfl)
theorem dX4_stop_32 : decode cX4_stop 32 = .ok (.iload_n 2, 1) := dk_28 (dk_at dksX4_stop_1 8 rfl rfl)
theorem dX4_stop_33 : decode cX4_stop 33 = .ok (.lconst 0, 1) := dk_9 (dk_at dksX4_stop_1 9 rfl rfl)
theorem dX4_stop_34 : decode cX4_stop 34 = .ok (.invokevirtual 467, 3) := dk_182 1 211 (dk_at dksX4_stop_1 10 rfl rfl)
theorem dX4_stop_37 : decode cX4_stop 37 = .ok (.iload_n 3, 1) := dk_29 (dk_at dksX4_stop_1 13 rfl rfl)
theorem dX4_stop_38 : decode cX4_stop 38 = .ok (.invokestatic 446, 3) := dk_184 1 190 (dk_at dksX4_stop_1 14 rfl rfl)
theorem dX4_stop_41 : decode cX4_stop 41 = .ok (.goto 6, 3) := dk_167 0 6 (dk_at dksX4_stop_1 17 rfl rfl)
theorem dX4_stop_44 : decode cX4_stop 44 = .ok (.ldc_w 293, 3) := dk_19 1 37 (dk_at dksX4_stop_1 20 rfl rfl)
theorem dX4_stop_47 : decode cX4_stop 47 = .ok (.ireturn, 1) := dk_172 (dk_at dksX4_stop_1 23 rfl rfl)
abbrev cX4_mean : ByteArray := prog_18_method_113_code
def yX4_mean : MethodName := ⟨RX4, "mean", "(II)I"⟩
def dkwX4_mean_1 : List UInt8 := [20, 1, 215, 182, 1, 211, 28, 184, 1, 190, 167, 0, 6, 19, 1, 37, 172]
abbrev dktX4_mean_1 : List UInt8 := dkwX4_mean_1 ++ []
def dkwX4_mean_0 : List UInt8 := [42, 3, 181, 0, 146, 27, 184, 1, 34, 153, 0, 28, 28, 3, 4, 184, 0, 153, 153, 0, 19, 42, 27, 3]
abbrev dktX4_mean_0 : List UInt8 := dkwX4_mean_0 ++ dktX4_mean_1
theorem dksX4_mean_0 : cX4_mean.data.toList.drop 0 = dktX4_mean_0 := by decide +kernel
theorem dksX4_mean_1 : cX4_mean.data.toList.drop 24 = dktX4_mean_1 := dk_seg dksX4_mean_0 24 rfl rfl
theorem dX4_mean_0 : decode cX4_mean 0 = .ok (.aload_n 0, 1) := dk_42 (dk_at dksX4_mean_0 0 rfl rfl)
theorem dX4_mean_1 : decode cX4_mean 1 = .ok (.iconst 0, 1) := dk_3 (dk_at dksX4_mean_0 1 rfl rfl)
theorem dX4_mean_2 : decode cX4_mean 2 = .ok (.putfield 146, 3) := dk_181 0 146 (dk_at dksX4_mean_0 2 rfl rfl)
theorem dX4_mean_5 : decode cX4_mean 5 = .ok (.iload_n 1, 1) := dk_27 (dk_at dksX4_mean_0 5 rfl rfl)
theorem dX4_mean_6 : decode cX4_mean 6 = .ok (.invokestatic 290, 3) := dk_184 1 34 (dk_at dksX4_mean_0 6 rfl rfl)
theorem dX4_mean_9 : decode cX4_mean 9 = .ok (.ifCond .eq 28, 3) := dk_153 0 28 (dk_at dksX4_mean_0 9 rfl rfl)
theorem dX4_mean_12 : decode cX4_mean 12 = .ok (.iload_n 2, 1) := dk_28 (dk_at dksX4_mean_0 12 rfl rfl)
theorem dX4_mean_13 : decode cX4_mean 13 = .ok (.iconst 0, 1) := dk_3 (dk_at dksX4_mean_0 13 rfl rfl)
theorem dX4_mean_14 : decode cX4_mean 14 = .ok (.iconst 1, 1) := dk_4 (dk_at dksX4_mean_0 14 rfl rfl)
theorem dX4_mean_15 : decode cX4_mean 15 = .ok (.invokestatic 153, 3) := dk_184 0 153 (dk_at dksX4_mean_0 15 rfl rfl)
theorem dX4_mean_18 : decode cX4_mean 18 = .ok (.ifCond .eq 19, 3) := dk_153 0 19 (dk_at dksX4_mean_0 18 rfl rfl)
theorem dX4_mean_21 : decode cX4_mean 21 = .ok (.aload_n 0, 1) := dk_42 (dk_at dksX4_mean_0 21 rfl rfl)
theorem dX4_mean_22 : decode cX4_mean 22 = .ok (.iload_n 1, 1) := dk_27 (dk_at dksX4_mean_0 22 rfl rfl)
theorem dX4_mean_23 : decode cX4_mean 23 = .ok (.iconst 0, 1) := dk_3 (dk_at dksX4_mean_0 23 rfl rfl)
theorem dX4_mean_24 : decode cX4_mean 24 = .ok (.ldc2_w 471, 3) := dk_20 1 215 (dk_at dksX4_mean_1 0 rfl rfl)
theorem dX4_mean_27 : decode cX4_mean 27 = .ok (.invokevirtual 467, 3) := dk_182 1 211 (dk_at dksX4_mean_1 3 rfl rfl)
theorem dX4_mean_30 : decode cX4_mean 30 = .ok (.iload_n 2, 1) := dk_28 (dk_at dksX4_mean_1 6 rfl rfl)
theorem dX4_mean_31 : decode cX4_mean 31 = .ok (.invokestatic 446, 3) := dk_184 1 190 (dk_at dksX4_mean_1 7 rfl rfl)
theorem dX4_mean_34 : decode cX4_mean 34 = .ok (.goto 6, 3) := dk_167 0 6 (dk_at dksX4_mean_1 10 rfl rfl)
theorem dX4_mean_37 : decode cX4_mean 37 = .ok (.ldc_w 293, 3) := dk_19 1 37 (dk_at dksX4_mean_1 13 rfl rfl)
theorem dX4_mean_40 : decode cX4_mean 40 = .ok (.ireturn, 1) := dk_172 (dk_at dksX4_mean_1 16 rfl rfl)
abbrev cX4_temperature : ByteArray := prog_18_method_114_code
def yX4_temperature : MethodName := ⟨RX4, "temperature", "(II)I"⟩
def dkwX4_temperature_2 : List UInt8 := [180, 0, 9, 16, 65, 27, 104, 46, 4, 100, 47, 28, 184, 1, 190, 172]
abbrev dktX4_temperature_2 : List UInt8 := dkwX4_temperature_2 ++ []
def dkwX4_temperature_1 : List UInt8 := [172, 42, 27, 182, 1, 82, 153, 0, 6, 18, 195, 172, 42, 27, 182, 1, 208, 42, 180, 0, 134, 42]
abbrev dktX4_temperature_1 : List UInt8 := dkwX4_temperature_1 ++ dktX4_temperature_2
def dkwX4_temperature_0 : List UInt8 := [42, 3, 181, 0, 146, 27, 184, 1, 34, 153, 0, 12, 28, 3, 4, 184, 0, 153, 154, 0, 7, 19, 1, 37]
abbrev dktX4_temperature_0 : List UInt8 := dkwX4_temperature_0 ++ dktX4_temperature_1
theorem dksX4_temperature_0 : cX4_temperature.data.toList.drop 0 = dktX4_temperature_0 := by decide +kernel
theorem dksX4_temperature_1 : cX4_temperature.data.toList.drop 24 = dktX4_temperature_1 := dk_seg dksX4_temperature_0 24 rfl rfl
theorem dksX4_temperature_2 : cX4_temperature.data.toList.drop 46 = dktX4_temperature_2 := dk_seg dksX4_temperature_1 22 rfl rfl
theorem dX4_temperature_0 : decode cX4_temperature 0 = .ok (.aload_n 0, 1) := dk_42 (dk_at dksX4_temperature_0 0 rfl rfl)
theorem dX4_temperature_1 : decode cX4_temperature 1 = .ok (.iconst 0, 1) := dk_3 (dk_at dksX4_temperature_0 1 rfl rfl)
theorem dX4_temperature_2 : decode cX4_temperature 2 = .ok (.putfield 146, 3) := dk_181 0 146 (dk_at dksX4_temperature_0 2 rfl rfl)
theorem dX4_temperature_5 : decode cX4_temperature 5 = .ok (.iload_n 1, 1) := dk_27 (dk_at dksX4_temperature_0 5 rfl rfl)
theorem dX4_temperature_6 : decode cX4_temperature 6 = .ok (.invokestatic 290, 3) := dk_184 1 34 (dk_at dksX4_temperature_0 6 rfl rfl)
theorem dX4_temperature_9 : decode cX4_temperature 9 = .ok (.ifCond .eq 12, 3) := dk_153 0 12 (dk_at dksX4_temperature_0 9 rfl rfl)
theorem dX4_temperature_12 : decode cX4_temperature 12 = .ok (.iload_n 2, 1) := dk_28 (dk_at dksX4_temperature_0 12 rfl rfl)
theorem dX4_temperature_13 : decode cX4_temperature 13 = .ok (.iconst 0, 1) := dk_3 (dk_at dksX4_temperature_0 13 rfl rfl)
theorem dX4_temperature_14 : decode cX4_temperature 14 = .ok (.iconst 1, 1) := dk_4 (dk_at dksX4_temperature_0 14 rfl rfl)
theorem dX4_temperature_15 : decode cX4_temperature 15 = .ok (.invokestatic 153, 3) := dk_184 0 153 (dk_at dksX4_temperature_0 15 rfl rfl)
theorem dX4_temperature_18 : decode cX4_temperature 18 = .ok (.ifCond .ne 7, 3) := dk_154 0 7 (dk_at dksX4_temperature_0 18 rfl rfl)
theorem dX4_temperature_21 : decode cX4_temperature 21 = .ok (.ldc_w 293, 3) := dk_19 1 37 (dk_at dksX4_temperature_0 21 rfl rfl)
theorem dX4_temperature_24 : decode cX4_temperature 24 = .ok (.ireturn, 1) := dk_172 (dk_at dksX4_temperature_1 0 rfl rfl)
theorem dX4_temperature_25 : decode cX4_temperature 25 = .ok (.aload_n 0, 1) := dk_42 (dk_at dksX4_temperature_1 1 rfl rfl)
theorem dX4_temperature_26 : decode cX4_temperature 26 = .ok (.iload_n 1, 1) := dk_27 (dk_at dksX4_temperature_1 2 rfl rfl)
theorem dX4_temperature_27 : decode cX4_temperature 27 = .ok (.invokevirtual 338, 3) := dk_182 1 82 (dk_at dksX4_temperature_1 3 rfl rfl)
theorem dX4_temperature_30 : decode cX4_temperature 30 = .ok (.ifCond .eq 6, 3) := dk_153 0 6 (dk_at dksX4_temperature_1 6 rfl rfl)
theorem dX4_temperature_33 : decode cX4_temperature 33 = .ok (.ldc 195, 2) := dk_18 195 (dk_at dksX4_temperature_1 9 rfl rfl)
theorem dX4_temperature_35 : decode cX4_temperature 35 = .ok (.ireturn, 1) := dk_172 (dk_at dksX4_temperature_1 11 rfl rfl)
theorem dX4_temperature_36 : decode cX4_temperature 36 = .ok (.aload_n 0, 1) := dk_42 (dk_at dksX4_temperature_1 12 rfl rfl)
theorem dX4_temperature_37 : decode cX4_temperature 37 = .ok (.iload_n 1, 1) := dk_27 (dk_at dksX4_temperature_1 13 rfl rfl)
theorem dX4_temperature_38 : decode cX4_temperature 38 = .ok (.invokevirtual 464, 3) := dk_182 1 208 (dk_at dksX4_temperature_1 14 rfl rfl)
theorem dX4_temperature_41 : decode cX4_temperature 41 = .ok (.aload_n 0, 1) := dk_42 (dk_at dksX4_temperature_1 17 rfl rfl)
theorem dX4_temperature_42 : decode cX4_temperature 42 = .ok (.getfield 134, 3) := dk_180 0 134 (dk_at dksX4_temperature_1 18 rfl rfl)
theorem dX4_temperature_45 : decode cX4_temperature 45 = .ok (.aload_n 0, 1) := dk_42 (dk_at dksX4_temperature_1 21 rfl rfl)
theorem dX4_temperature_46 : decode cX4_temperature 46 = .ok (.getfield 9, 3) := dk_180 0 9 (dk_at dksX4_temperature_2 0 rfl rfl)
theorem dX4_temperature_49 : decode cX4_temperature 49 = .ok (.bipush 65, 2) := dk_16 65 (dk_at dksX4_temperature_2 3 rfl rfl)
theorem dX4_temperature_51 : decode cX4_temperature 51 = .ok (.iload_n 1, 1) := dk_27 (dk_at dksX4_temperature_2 5 rfl rfl)
theorem dX4_temperature_52 : decode cX4_temperature 52 = .ok (.imul, 1) := dk_104 (dk_at dksX4_temperature_2 6 rfl rfl)
theorem dX4_temperature_53 : decode cX4_temperature 53 = .ok (.iaload, 1) := dk_46 (dk_at dksX4_temperature_2 7 rfl rfl)
theorem dX4_temperature_54 : decode cX4_temperature 54 = .ok (.iconst 1, 1) := dk_4 (dk_at dksX4_temperature_2 8 rfl rfl)
theorem dX4_temperature_55 : decode cX4_temperature 55 = .ok (.isub, 1) := dk_100 (dk_at dksX4_temperature_2 9 rfl rfl)
theorem dX4_temperature_56 : decode cX4_temperature 56 = .ok (.laload, 1) := dk_47 (dk_at dksX4_temperature_2 10 rfl rfl)
theorem dX4_temperature_57 : decode cX4_temperature 57 = .ok (.iload_n 2, 1) := dk_28 (dk_at dksX4_temperature_2 11 rfl rfl)
theorem dX4_temperature_58 : decode cX4_temperature 58 = .ok (.invokestatic 446, 3) := dk_184 1 190 (dk_at dksX4_temperature_2 12 rfl rfl)
theorem dX4_temperature_61 : decode cX4_temperature 61 = .ok (.ireturn, 1) := dk_172 (dk_at dksX4_temperature_2 15 rfl rfl)
abbrev cX4_wall : ByteArray := prog_18_method_115_code
def yX4_wall : MethodName := ⟨RX4, "wall", "(IIIII)I"⟩
def dkwX4_wall_3 : List UInt8 := [21, 5, 184, 1, 190, 172]
abbrev dktX4_wall_3 : List UInt8 := dkwX4_wall_3 ++ []
def dkwX4_wall_2 : List UInt8 := [184, 0, 153, 154, 0, 7, 19, 1, 37, 172, 42, 27, 28, 29, 133, 16, 40, 21, 4, 100, 121, 182, 1, 211]
abbrev dktX4_wall_2 : List UInt8 := dkwX4_wall_2 ++ dktX4_wall_3
def dkwX4_wall_1 : List UInt8 := [17, 3, 232, 184, 0, 153, 153, 0, 24, 21, 4, 3, 16, 10, 184, 0, 153, 153, 0, 13, 21, 5, 3, 4]
abbrev dktX4_wall_1 : List UInt8 := dkwX4_wall_1 ++ dktX4_wall_2
def dkwX4_wall_0 : List UInt8 := [42, 3, 181, 0, 146, 27, 184, 1, 34, 153, 0, 44, 28, 3, 4, 184, 0, 153, 153, 0, 35, 29, 3]
abbrev dktX4_wall_0 : List UInt8 := dkwX4_wall_0 ++ dktX4_wall_1
theorem dksX4_wall_0 : cX4_wall.data.toList.drop 0 = dktX4_wall_0 := by decide +kernel
theorem dksX4_wall_1 : cX4_wall.data.toList.drop 23 = dktX4_wall_1 := dk_seg dksX4_wall_0 23 rfl rfl
theorem dksX4_wall_2 : cX4_wall.data.toList.drop 47 = dktX4_wall_2 := dk_seg dksX4_wall_1 24 rfl rfl
theorem dksX4_wall_3 : cX4_wall.data.toList.drop 71 = dktX4_wall_3 := dk_seg dksX4_wall_2 24 rfl rfl
theorem dX4_wall_0 : decode cX4_wall 0 = .ok (.aload_n 0, 1) := dk_42 (dk_at dksX4_wall_0 0 rfl rfl)
theorem dX4_wall_1 : decode cX4_wall 1 = .ok (.iconst 0, 1) := dk_3 (dk_at dksX4_wall_0 1 rfl rfl)
theorem dX4_wall_2 : decode cX4_wall 2 = .ok (.putfield 146, 3) := dk_181 0 146 (dk_at dksX4_wall_0 2 rfl rfl)
theorem dX4_wall_5 : decode cX4_wall 5 = .ok (.iload_n 1, 1) := dk_27 (dk_at dksX4_wall_0 5 rfl rfl)
theorem dX4_wall_6 : decode cX4_wall 6 = .ok (.invokestatic 290, 3) := dk_184 1 34 (dk_at dksX4_wall_0 6 rfl rfl)
theorem dX4_wall_9 : decode cX4_wall 9 = .ok (.ifCond .eq 44, 3) := dk_153 0 44 (dk_at dksX4_wall_0 9 rfl rfl)
theorem dX4_wall_12 : decode cX4_wall 12 = .ok (.iload_n 2, 1) := dk_28 (dk_at dksX4_wall_0 12 rfl rfl)
theorem dX4_wall_13 : decode cX4_wall 13 = .ok (.iconst 0, 1) := dk_3 (dk_at dksX4_wall_0 13 rfl rfl)
theorem dX4_wall_14 : decode cX4_wall 14 = .ok (.iconst 1, 1) := dk_4 (dk_at dksX4_wall_0 14 rfl rfl)
theorem dX4_wall_15 : decode cX4_wall 15 = .ok (.invokestatic 153, 3) := dk_184 0 153 (dk_at dksX4_wall_0 15 rfl rfl)
theorem dX4_wall_18 : decode cX4_wall 18 = .ok (.ifCond .eq 35, 3) := dk_153 0 35 (dk_at dksX4_wall_0 18 rfl rfl)
theorem dX4_wall_21 : decode cX4_wall 21 = .ok (.iload_n 3, 1) := dk_29 (dk_at dksX4_wall_0 21 rfl rfl)
theorem dX4_wall_22 : decode cX4_wall 22 = .ok (.iconst 0, 1) := dk_3 (dk_at dksX4_wall_0 22 rfl rfl)
theorem dX4_wall_23 : decode cX4_wall 23 = .ok (.sipush 1000, 3) := dk_17 3 232 (dk_at dksX4_wall_1 0 rfl rfl)
theorem dX4_wall_26 : decode cX4_wall 26 = .ok (.invokestatic 153, 3) := dk_184 0 153 (dk_at dksX4_wall_1 3 rfl rfl)
theorem dX4_wall_29 : decode cX4_wall 29 = .ok (.ifCond .eq 24, 3) := dk_153 0 24 (dk_at dksX4_wall_1 6 rfl rfl)
theorem dX4_wall_32 : decode cX4_wall 32 = .ok (.iload 4, 2) := dk_21 4 (dk_at dksX4_wall_1 9 rfl rfl)
theorem dX4_wall_34 : decode cX4_wall 34 = .ok (.iconst 0, 1) := dk_3 (dk_at dksX4_wall_1 11 rfl rfl)
theorem dX4_wall_35 : decode cX4_wall 35 = .ok (.bipush 10, 2) := dk_16 10 (dk_at dksX4_wall_1 12 rfl rfl)
theorem dX4_wall_37 : decode cX4_wall 37 = .ok (.invokestatic 153, 3) := dk_184 0 153 (dk_at dksX4_wall_1 14 rfl rfl)
theorem dX4_wall_40 : decode cX4_wall 40 = .ok (.ifCond .eq 13, 3) := dk_153 0 13 (dk_at dksX4_wall_1 17 rfl rfl)
theorem dX4_wall_43 : decode cX4_wall 43 = .ok (.iload 5, 2) := dk_21 5 (dk_at dksX4_wall_1 20 rfl rfl)
theorem dX4_wall_45 : decode cX4_wall 45 = .ok (.iconst 0, 1) := dk_3 (dk_at dksX4_wall_1 22 rfl rfl)
theorem dX4_wall_46 : decode cX4_wall 46 = .ok (.iconst 1, 1) := dk_4 (dk_at dksX4_wall_1 23 rfl rfl)
theorem dX4_wall_47 : decode cX4_wall 47 = .ok (.invokestatic 153, 3) := dk_184 0 153 (dk_at dksX4_wall_2 0 rfl rfl)
theorem dX4_wall_50 : decode cX4_wall 50 = .ok (.ifCond .ne 7, 3) := dk_154 0 7 (dk_at dksX4_wall_2 3 rfl rfl)
theorem dX4_wall_53 : decode cX4_wall 53 = .ok (.ldc_w 293, 3) := dk_19 1 37 (dk_at dksX4_wall_2 6 rfl rfl)
theorem dX4_wall_56 : decode cX4_wall 56 = .ok (.ireturn, 1) := dk_172 (dk_at dksX4_wall_2 9 rfl rfl)
theorem dX4_wall_57 : decode cX4_wall 57 = .ok (.aload_n 0, 1) := dk_42 (dk_at dksX4_wall_2 10 rfl rfl)
theorem dX4_wall_58 : decode cX4_wall 58 = .ok (.iload_n 1, 1) := dk_27 (dk_at dksX4_wall_2 11 rfl rfl)
theorem dX4_wall_59 : decode cX4_wall 59 = .ok (.iload_n 2, 1) := dk_28 (dk_at dksX4_wall_2 12 rfl rfl)
theorem dX4_wall_60 : decode cX4_wall 60 = .ok (.iload_n 3, 1) := dk_29 (dk_at dksX4_wall_2 13 rfl rfl)
theorem dX4_wall_61 : decode cX4_wall 61 = .ok (.i2l, 1) := dk_133 (dk_at dksX4_wall_2 14 rfl rfl)
theorem dX4_wall_62 : decode cX4_wall 62 = .ok (.bipush 40, 2) := dk_16 40 (dk_at dksX4_wall_2 15 rfl rfl)
theorem dX4_wall_64 : decode cX4_wall 64 = .ok (.iload 4, 2) := dk_21 4 (dk_at dksX4_wall_2 17 rfl rfl)
theorem dX4_wall_66 : decode cX4_wall 66 = .ok (.isub, 1) := dk_100 (dk_at dksX4_wall_2 19 rfl rfl)
theorem dX4_wall_67 : decode cX4_wall 67 = .ok (.lshl, 1) := dk_121 (dk_at dksX4_wall_2 20 rfl rfl)
theorem dX4_wall_68 : decode cX4_wall 68 = .ok (.invokevirtual 467, 3) := dk_182 1 211 (dk_at dksX4_wall_2 21 rfl rfl)
theorem dX4_wall_71 : decode cX4_wall 71 = .ok (.iload 5, 2) := dk_21 5 (dk_at dksX4_wall_3 0 rfl rfl)
theorem dX4_wall_73 : decode cX4_wall 73 = .ok (.invokestatic 446, 3) := dk_184 1 190 (dk_at dksX4_wall_3 2 rfl rfl)
theorem dX4_wall_76 : decode cX4_wall 76 = .ok (.ireturn, 1) := dk_172 (dk_at dksX4_wall_3 5 rfl rfl)
abbrev cX4_undo : ByteArray := prog_18_method_116_code
def yX4_undo : MethodName := ⟨RX4, "undo", "()I"⟩
def dkwX4_undo_2 : List UInt8 := [42, 180, 0, 157, 104, 27, 96, 46, 79, 132, 1, 1, 167, 255, 225, 42, 180, 0, 157, 172]
abbrev dktX4_undo_2 : List UInt8 := dkwX4_undo_2 ++ []
def dkwX4_undo_1 : List UInt8 := [181, 0, 157, 3, 60, 27, 17, 3, 12, 162, 0, 30, 42, 180, 0, 9, 27, 42, 180, 0, 13, 17, 3, 12]
abbrev dktX4_undo_1 : List UInt8 := dkwX4_undo_1 ++ dktX4_undo_2
def dkwX4_undo_0 : List UInt8 := [42, 3, 181, 0, 146, 42, 180, 0, 157, 154, 0, 7, 19, 1, 85, 172, 42, 89, 180, 0, 157, 4, 100]
abbrev dktX4_undo_0 : List UInt8 := dkwX4_undo_0 ++ dktX4_undo_1
theorem dksX4_undo_0 : cX4_undo.data.toList.drop 0 = dktX4_undo_0 := by decide +kernel
theorem dksX4_undo_1 : cX4_undo.data.toList.drop 23 = dktX4_undo_1 := dk_seg dksX4_undo_0 23 rfl rfl
theorem dksX4_undo_2 : cX4_undo.data.toList.drop 47 = dktX4_undo_2 := dk_seg dksX4_undo_1 24 rfl rfl
theorem dX4_undo_0 : decode cX4_undo 0 = .ok (.aload_n 0, 1) := dk_42 (dk_at dksX4_undo_0 0 rfl rfl)
theorem dX4_undo_1 : decode cX4_undo 1 = .ok (.iconst 0, 1) := dk_3 (dk_at dksX4_undo_0 1 rfl rfl)
theorem dX4_undo_2 : decode cX4_undo 2 = .ok (.putfield 146, 3) := dk_181 0 146 (dk_at dksX4_undo_0 2 rfl rfl)
theorem dX4_undo_5 : decode cX4_undo 5 = .ok (.aload_n 0, 1) := dk_42 (dk_at dksX4_undo_0 5 rfl rfl)
theorem dX4_undo_6 : decode cX4_undo 6 = .ok (.getfield 157, 3) := dk_180 0 157 (dk_at dksX4_undo_0 6 rfl rfl)
theorem dX4_undo_9 : decode cX4_undo 9 = .ok (.ifCond .ne 7, 3) := dk_154 0 7 (dk_at dksX4_undo_0 9 rfl rfl)
theorem dX4_undo_12 : decode cX4_undo 12 = .ok (.ldc_w 341, 3) := dk_19 1 85 (dk_at dksX4_undo_0 12 rfl rfl)
theorem dX4_undo_15 : decode cX4_undo 15 = .ok (.ireturn, 1) := dk_172 (dk_at dksX4_undo_0 15 rfl rfl)
theorem dX4_undo_16 : decode cX4_undo 16 = .ok (.aload_n 0, 1) := dk_42 (dk_at dksX4_undo_0 16 rfl rfl)
theorem dX4_undo_17 : decode cX4_undo 17 = .ok (.dup, 1) := dk_89 (dk_at dksX4_undo_0 17 rfl rfl)
theorem dX4_undo_18 : decode cX4_undo 18 = .ok (.getfield 157, 3) := dk_180 0 157 (dk_at dksX4_undo_0 18 rfl rfl)
theorem dX4_undo_21 : decode cX4_undo 21 = .ok (.iconst 1, 1) := dk_4 (dk_at dksX4_undo_0 21 rfl rfl)
theorem dX4_undo_22 : decode cX4_undo 22 = .ok (.isub, 1) := dk_100 (dk_at dksX4_undo_0 22 rfl rfl)
theorem dX4_undo_23 : decode cX4_undo 23 = .ok (.putfield 157, 3) := dk_181 0 157 (dk_at dksX4_undo_1 0 rfl rfl)
theorem dX4_undo_26 : decode cX4_undo 26 = .ok (.iconst 0, 1) := dk_3 (dk_at dksX4_undo_1 3 rfl rfl)
theorem dX4_undo_27 : decode cX4_undo 27 = .ok (.istore_n 1, 1) := dk_60 (dk_at dksX4_undo_1 4 rfl rfl)
theorem dX4_undo_28 : decode cX4_undo 28 = .ok (.iload_n 1, 1) := dk_27 (dk_at dksX4_undo_1 5 rfl rfl)
theorem dX4_undo_29 : decode cX4_undo 29 = .ok (.sipush 780, 3) := dk_17 3 12 (dk_at dksX4_undo_1 6 rfl rfl)
theorem dX4_undo_32 : decode cX4_undo 32 = .ok (.if_icmp .ge 30, 3) := dk_162 0 30 (dk_at dksX4_undo_1 9 rfl rfl)
theorem dX4_undo_35 : decode cX4_undo 35 = .ok (.aload_n 0, 1) := dk_42 (dk_at dksX4_undo_1 12 rfl rfl)
theorem dX4_undo_36 : decode cX4_undo 36 = .ok (.getfield 9, 3) := dk_180 0 9 (dk_at dksX4_undo_1 13 rfl rfl)
theorem dX4_undo_39 : decode cX4_undo 39 = .ok (.iload_n 1, 1) := dk_27 (dk_at dksX4_undo_1 16 rfl rfl)
theorem dX4_undo_40 : decode cX4_undo 40 = .ok (.aload_n 0, 1) := dk_42 (dk_at dksX4_undo_1 17 rfl rfl)
theorem dX4_undo_41 : decode cX4_undo 41 = .ok (.getfield 13, 3) := dk_180 0 13 (dk_at dksX4_undo_1 18 rfl rfl)
theorem dX4_undo_44 : decode cX4_undo 44 = .ok (.sipush 780, 3) := dk_17 3 12 (dk_at dksX4_undo_1 21 rfl rfl)
theorem dX4_undo_47 : decode cX4_undo 47 = .ok (.aload_n 0, 1) := dk_42 (dk_at dksX4_undo_2 0 rfl rfl)
theorem dX4_undo_48 : decode cX4_undo 48 = .ok (.getfield 157, 3) := dk_180 0 157 (dk_at dksX4_undo_2 1 rfl rfl)
theorem dX4_undo_51 : decode cX4_undo 51 = .ok (.imul, 1) := dk_104 (dk_at dksX4_undo_2 4 rfl rfl)
theorem dX4_undo_52 : decode cX4_undo 52 = .ok (.iload_n 1, 1) := dk_27 (dk_at dksX4_undo_2 5 rfl rfl)
theorem dX4_undo_53 : decode cX4_undo 53 = .ok (.iadd, 1) := dk_96 (dk_at dksX4_undo_2 6 rfl rfl)
theorem dX4_undo_54 : decode cX4_undo 54 = .ok (.iaload, 1) := dk_46 (dk_at dksX4_undo_2 7 rfl rfl)
theorem dX4_undo_55 : decode cX4_undo 55 = .ok (.iastore, 1) := dk_79 (dk_at dksX4_undo_2 8 rfl rfl)
theorem dX4_undo_56 : decode cX4_undo 56 = .ok (.iinc 1 1, 3) := dk_132 1 1 (dk_at dksX4_undo_2 9 rfl rfl)
theorem dX4_undo_59 : decode cX4_undo 59 = .ok (.goto (-31), 3) := dk_167 255 225 (dk_at dksX4_undo_2 12 rfl rfl)
theorem dX4_undo_62 : decode cX4_undo 62 = .ok (.aload_n 0, 1) := dk_42 (dk_at dksX4_undo_2 15 rfl rfl)
theorem dX4_undo_63 : decode cX4_undo 63 = .ok (.getfield 157, 3) := dk_180 0 157 (dk_at dksX4_undo_2 16 rfl rfl)
theorem dX4_undo_66 : decode cX4_undo 66 = .ok (.ireturn, 1) := dk_172 (dk_at dksX4_undo_2 19 rfl rfl)
theorem q147 : (Jvm.Cond.initialized "GameCalculatorModel") ∈ lw_all := lw_g (lw_at lw_m1 16 rfl) rfl
theorem q830 : (Jvm.Cond.selects "GameCalculatorModel" ({ cls := "java/lang/Object", name := "getClass", desc := "()Ljava/lang/Class;" } : Jvm.MethodName) ({ cls := "java/lang/Object", name := "getClass", desc := "()Ljava/lang/Class;" } : Jvm.MethodName)) ∈ lw_all := lw_g (lw_at lw_m3 219 rfl) rfl
theorem q2337 : (Jvm.Cond.instantiable "GameCalculatorModel" (59 : Nat)) ∈ lw_all := lw_g (lw_at lw_m10 46 rfl) rfl
theorem q2339 : (Jvm.Cond.instanceMethod ({ cls := "GameCalculatorModel", name := "<init>", desc := "()V" } : Jvm.MethodName)) ∈ lw_all := lw_g (lw_at lw_m10 48 rfl) rfl
theorem q2340 : (Jvm.Cond.code ({ cls := "GameCalculatorModel", name := "<init>", desc := "()V" } : Jvm.MethodName) prog_18_method_1_code (2 : Nat) (Option.none : Option Jvm.ClassFile.FieldType)) ∈ lw_all := lw_g (lw_at lw_m10 49 rfl) rfl
theorem q2341 : (Jvm.Cond.methodLink "GameCalculatorModel" (3 : Nat) ({ cls := "java/lang/Object", name := "<init>", desc := "()V" } : Jvm.MethodName)) ∈ lw_all := lw_g (lw_at lw_m10 50 rfl) rfl
theorem q2342 : (Jvm.Cond.constant "GameCalculatorModel" (43 : Nat) (60000 : Int32)) ∈ lw_all := lw_g (lw_at lw_m10 51 rfl) rfl
theorem q2343 : (Jvm.Cond.constant "GameCalculatorModel" (47 : Nat) (409600 : Int32)) ∈ lw_all := lw_g (lw_at lw_m10 52 rfl) rfl
theorem q2344 : (Jvm.Cond.methodLink "GameCalculatorModel" (150 : Nat) ({ cls := "GameCalculatorModel", name := "makeUps", desc := "()V" } : Jvm.MethodName)) ∈ lw_all := lw_g (lw_at lw_m10 53 rfl) rfl
theorem q2345 : (Jvm.Cond.privateMethod ({ cls := "GameCalculatorModel", name := "makeUps", desc := "()V" } : Jvm.MethodName)) ∈ lw_tbl := lw_at lw_m10 54 rfl
theorem q2346 : (Jvm.Cond.instanceMethod ({ cls := "GameCalculatorModel", name := "makeUps", desc := "()V" } : Jvm.MethodName)) ∈ lw_all := lw_g (lw_at lw_m10 55 rfl) rfl
theorem q2347 : (Jvm.Cond.code ({ cls := "GameCalculatorModel", name := "makeUps", desc := "()V" } : Jvm.MethodName) prog_18_method_46_code (4 : Nat) (Option.none : Option Jvm.ClassFile.FieldType)) ∈ lw_all := lw_g (lw_at lw_m10 56 rfl) rfl
theorem q2348 : (Jvm.Cond.methodLink "GameCalculatorModel" (276 : Nat) ({ cls := "GameCalculatorModel", name := "layNimber", desc := "(I)V" } : Jvm.MethodName)) ∈ lw_all := lw_g (lw_at lw_m10 57 rfl) rfl
theorem q2349 : (Jvm.Cond.privateMethod ({ cls := "GameCalculatorModel", name := "layNimber", desc := "(I)V" } : Jvm.MethodName)) ∈ lw_tbl := lw_at lw_m10 58 rfl
theorem q2350 : (Jvm.Cond.instanceMethod ({ cls := "GameCalculatorModel", name := "layNimber", desc := "(I)V" } : Jvm.MethodName)) ∈ lw_all := lw_g (lw_at lw_m10 59 rfl) rfl
theorem q2351 : (Jvm.Cond.code ({ cls := "GameCalculatorModel", name := "layNimber", desc := "(I)V" } : Jvm.MethodName) prog_18_method_43_code (3 : Nat) (Option.none : Option Jvm.ClassFile.FieldType)) ∈ lw_all := lw_g (lw_at lw_m10 60 rfl) rfl
theorem q2352 : (Jvm.Cond.methodLink "GameCalculatorModel" (279 : Nat) ({ cls := "GameCalculatorModel", name := "upAt", desc := "(II)I" } : Jvm.MethodName)) ∈ lw_all := lw_g (lw_at lw_m10 61 rfl) rfl
theorem q2353 : (Jvm.Cond.privateMethod ({ cls := "GameCalculatorModel", name := "upAt", desc := "(II)I" } : Jvm.MethodName)) ∈ lw_tbl := lw_at lw_m10 62 rfl
theorem q2354 : (Jvm.Cond.instanceMethod ({ cls := "GameCalculatorModel", name := "upAt", desc := "(II)I" } : Jvm.MethodName)) ∈ lw_all := lw_g (lw_at lw_m10 63 rfl) rfl
theorem q2355 : (Jvm.Cond.code ({ cls := "GameCalculatorModel", name := "upAt", desc := "(II)I" } : Jvm.MethodName) prog_18_method_45_code (3 : Nat) (Option.some Jvm.ClassFile.FieldType.int)) ∈ lw_all := lw_g (lw_at lw_m10 64 rfl) rfl
theorem q2356 : (Jvm.Cond.methodLink "GameCalculatorModel" (231 : Nat) ({ cls := "GameCalculatorModel", name := "copyGame", desc := "([II[II)V" } : Jvm.MethodName)) ∈ lw_all := lw_g (lw_at lw_m10 65 rfl) rfl
theorem q2357 : (Jvm.Cond.static ({ cls := "GameCalculatorModel", name := "copyGame", desc := "([II[II)V" } : Jvm.MethodName)) ∈ lw_all := lw_g (lw_at lw_m10 66 rfl) rfl
theorem q2358 : (Jvm.Cond.code ({ cls := "GameCalculatorModel", name := "copyGame", desc := "([II[II)V" } : Jvm.MethodName) prog_18_method_5_code (5 : Nat) (Option.none : Option Jvm.ClassFile.FieldType)) ∈ lw_all := lw_g (lw_at lw_m10 67 rfl) rfl
theorem q2359 : (Jvm.Cond.methodLink "GameCalculatorModel" (282 : Nat) ({ cls := "GameCalculatorModel", name := "layUp", desc := "(Z)V" } : Jvm.MethodName)) ∈ lw_all := lw_g (lw_at lw_m10 68 rfl) rfl
theorem q2360 : (Jvm.Cond.privateMethod ({ cls := "GameCalculatorModel", name := "layUp", desc := "(Z)V" } : Jvm.MethodName)) ∈ lw_tbl := lw_at lw_m10 69 rfl
theorem q2361 : (Jvm.Cond.instanceMethod ({ cls := "GameCalculatorModel", name := "layUp", desc := "(Z)V" } : Jvm.MethodName)) ∈ lw_all := lw_g (lw_at lw_m10 70 rfl) rfl
theorem q2362 : (Jvm.Cond.code ({ cls := "GameCalculatorModel", name := "layUp", desc := "(Z)V" } : Jvm.MethodName) prog_18_method_44_code (3 : Nat) (Option.none : Option Jvm.ClassFile.FieldType)) ∈ lw_all := lw_g (lw_at lw_m10 71 rfl) rfl
theorem q2363 : (Jvm.Cond.methodLink "GameCalculatorModel" (286 : Nat) ({ cls := "GameCalculatorModel", name := "sum", desc := "()Z" } : Jvm.MethodName)) ∈ lw_all := lw_g (lw_at lw_m10 72 rfl) rfl
theorem q2364 : (Jvm.Cond.privateMethod ({ cls := "GameCalculatorModel", name := "sum", desc := "()Z" } : Jvm.MethodName)) ∈ lw_tbl := lw_at lw_m10 73 rfl
theorem q2365 : (Jvm.Cond.instanceMethod ({ cls := "GameCalculatorModel", name := "sum", desc := "()Z" } : Jvm.MethodName)) ∈ lw_all := lw_g (lw_at lw_m10 74 rfl) rfl
theorem q2366 : (Jvm.Cond.code ({ cls := "GameCalculatorModel", name := "sum", desc := "()Z" } : Jvm.MethodName) prog_18_method_39_code (4 : Nat) (Option.some Jvm.ClassFile.FieldType.boolean)) ∈ lw_all := lw_g (lw_at lw_m10 75 rfl) rfl
theorem q2367 : (Jvm.Cond.methodLink "GameCalculatorModel" (260 : Nat) ({ cls := "GameCalculatorModel", name := "reset", desc := "()V" } : Jvm.MethodName)) ∈ lw_all := lw_g (lw_at lw_m10 76 rfl) rfl
theorem q2368 : (Jvm.Cond.privateMethod ({ cls := "GameCalculatorModel", name := "reset", desc := "()V" } : Jvm.MethodName)) ∈ lw_tbl := lw_at lw_m10 77 rfl
theorem q2369 : (Jvm.Cond.instanceMethod ({ cls := "GameCalculatorModel", name := "reset", desc := "()V" } : Jvm.MethodName)) ∈ lw_all := lw_g (lw_at lw_m10 78 rfl) rfl
theorem q2370 : (Jvm.Cond.code ({ cls := "GameCalculatorModel", name := "reset", desc := "()V" } : Jvm.MethodName) prog_18_method_8_code (1 : Nat) (Option.none : Option Jvm.ClassFile.FieldType)) ∈ lw_all := lw_g (lw_at lw_m10 79 rfl) rfl
theorem q2371 : (Jvm.Cond.methodLink "GameCalculatorModel" (263 : Nat) ({ cls := "GameCalculatorModel", name := "addOptions", desc := "(IIZ)V" } : Jvm.MethodName)) ∈ lw_all := lw_g (lw_at lw_m10 80 rfl) rfl
theorem q2372 : (Jvm.Cond.privateMethod ({ cls := "GameCalculatorModel", name := "addOptions", desc := "(IIZ)V" } : Jvm.MethodName)) ∈ lw_tbl := lw_at lw_m10 81 rfl
theorem q2373 : (Jvm.Cond.instanceMethod ({ cls := "GameCalculatorModel", name := "addOptions", desc := "(IIZ)V" } : Jvm.MethodName)) ∈ lw_all := lw_g (lw_at lw_m10 82 rfl) rfl
theorem q2374 : (Jvm.Cond.code ({ cls := "GameCalculatorModel", name := "addOptions", desc := "(IIZ)V" } : Jvm.MethodName) prog_18_method_38_code (7 : Nat) (Option.none : Option Jvm.ClassFile.FieldType)) ∈ lw_all := lw_g (lw_at lw_m10 83 rfl) rfl
theorem q2375 : (Jvm.Cond.methodLink "GameCalculatorModel" (256 : Nat) ({ cls := "GameCalculatorModel", name := "addOption", desc := "(IZ)V" } : Jvm.MethodName)) ∈ lw_all := lw_g (lw_at lw_m10 84 rfl) rfl
theorem q2376 : (Jvm.Cond.privateMethod ({ cls := "GameCalculatorModel", name := "addOption", desc := "(IZ)V" } : Jvm.MethodName)) ∈ lw_tbl := lw_at lw_m10 85 rfl
theorem q2377 : (Jvm.Cond.instanceMethod ({ cls := "GameCalculatorModel", name := "addOption", desc := "(IZ)V" } : Jvm.MethodName)) ∈ lw_all := lw_g (lw_at lw_m10 86 rfl) rfl
theorem q2378 : (Jvm.Cond.code ({ cls := "GameCalculatorModel", name := "addOption", desc := "(IZ)V" } : Jvm.MethodName) prog_18_method_37_code (3 : Nat) (Option.none : Option Jvm.ClassFile.FieldType)) ∈ lw_all := lw_g (lw_at lw_m10 87 rfl) rfl
theorem q2379 : (Jvm.Cond.methodLink "GameCalculatorModel" (267 : Nat) ({ cls := "GameCalculatorModel", name := "canonical", desc := "()I" } : Jvm.MethodName)) ∈ lw_all := lw_g (lw_at lw_m10 88 rfl) rfl
theorem q2380 : (Jvm.Cond.privateMethod ({ cls := "GameCalculatorModel", name := "canonical", desc := "()I" } : Jvm.MethodName)) ∈ lw_tbl := lw_at lw_m10 89 rfl
theorem q2381 : (Jvm.Cond.instanceMethod ({ cls := "GameCalculatorModel", name := "canonical", desc := "()I" } : Jvm.MethodName)) ∈ lw_all := lw_g (lw_at lw_m10 90 rfl) rfl
theorem q2382 : (Jvm.Cond.code ({ cls := "GameCalculatorModel", name := "canonical", desc := "()I" } : Jvm.MethodName) prog_18_method_20_code (2 : Nat) (Option.some Jvm.ClassFile.FieldType.int)) ∈ lw_all := lw_g (lw_at lw_m10 91 rfl) rfl
theorem q2383 : (Jvm.Cond.methodLink "GameCalculatorModel" (204 : Nat) ({ cls := "GameCalculatorModel", name := "place", desc := "()V" } : Jvm.MethodName)) ∈ lw_all := lw_g (lw_at lw_m10 92 rfl) rfl
theorem q2384 : (Jvm.Cond.privateMethod ({ cls := "GameCalculatorModel", name := "place", desc := "()V" } : Jvm.MethodName)) ∈ lw_tbl := lw_at lw_m10 93 rfl
theorem q2385 : (Jvm.Cond.instanceMethod ({ cls := "GameCalculatorModel", name := "place", desc := "()V" } : Jvm.MethodName)) ∈ lw_all := lw_g (lw_at lw_m10 94 rfl) rfl
theorem q2386 : (Jvm.Cond.code ({ cls := "GameCalculatorModel", name := "place", desc := "()V" } : Jvm.MethodName) prog_18_method_16_code (5 : Nat) (Option.none : Option Jvm.ClassFile.FieldType)) ∈ lw_all := lw_g (lw_at lw_m10 95 rfl) rfl
theorem q2387 : (Jvm.Cond.methodLink "GameCalculatorModel" (184 : Nat) ({ cls := "GameCalculatorModel", name := "left", desc := "(II)I" } : Jvm.MethodName)) ∈ lw_all := lw_g (lw_at lw_m10 96 rfl) rfl
theorem q2388 : (Jvm.Cond.privateMethod ({ cls := "GameCalculatorModel", name := "left", desc := "(II)I" } : Jvm.MethodName)) ∈ lw_tbl := lw_at lw_m10 97 rfl
theorem q2389 : (Jvm.Cond.instanceMethod ({ cls := "GameCalculatorModel", name := "left", desc := "(II)I" } : Jvm.MethodName)) ∈ lw_all := lw_g (lw_at lw_m10 98 rfl) rfl
theorem q2390 : (Jvm.Cond.code ({ cls := "GameCalculatorModel", name := "left", desc := "(II)I" } : Jvm.MethodName) prog_18_method_13_code (3 : Nat) (Option.some Jvm.ClassFile.FieldType.int)) ∈ lw_all := lw_g (lw_at lw_m10 99 rfl) rfl
theorem q2391 : (Jvm.Cond.methodLink "GameCalculatorModel" (188 : Nat) ({ cls := "GameCalculatorModel", name := "atMost", desc := "(II)Z" } : Jvm.MethodName)) ∈ lw_all := lw_g (lw_at lw_m10 100 rfl) rfl
theorem q2392 : (Jvm.Cond.privateMethod ({ cls := "GameCalculatorModel", name := "atMost", desc := "(II)Z" } : Jvm.MethodName)) ∈ lw_tbl := lw_at lw_m10 101 rfl
theorem q2393 : (Jvm.Cond.instanceMethod ({ cls := "GameCalculatorModel", name := "atMost", desc := "(II)Z" } : Jvm.MethodName)) ∈ lw_all := lw_g (lw_at lw_m10 102 rfl) rfl
theorem q2394 : (Jvm.Cond.code ({ cls := "GameCalculatorModel", name := "atMost", desc := "(II)Z" } : Jvm.MethodName) prog_18_method_9_code (3 : Nat) (Option.some Jvm.ClassFile.FieldType.boolean)) ∈ lw_all := lw_g (lw_at lw_m10 103 rfl) rfl
theorem q2395 : (Jvm.Cond.methodLink "GameCalculatorModel" (192 : Nat) ({ cls := "GameCalculatorModel", name := "right", desc := "(II)I" } : Jvm.MethodName)) ∈ lw_all := lw_g (lw_at lw_m10 104 rfl) rfl
theorem q2396 : (Jvm.Cond.privateMethod ({ cls := "GameCalculatorModel", name := "right", desc := "(II)I" } : Jvm.MethodName)) ∈ lw_tbl := lw_at lw_m10 105 rfl
theorem q2397 : (Jvm.Cond.instanceMethod ({ cls := "GameCalculatorModel", name := "right", desc := "(II)I" } : Jvm.MethodName)) ∈ lw_all := lw_g (lw_at lw_m10 106 rfl) rfl
theorem q2398 : (Jvm.Cond.code ({ cls := "GameCalculatorModel", name := "right", desc := "(II)I" } : Jvm.MethodName) prog_18_method_14_code (3 : Nat) (Option.some Jvm.ClassFile.FieldType.int)) ∈ lw_all := lw_g (lw_at lw_m10 107 rfl) rfl
theorem q2399 : (Jvm.Cond.methodLink "GameCalculatorModel" (207 : Nat) ({ cls := "GameCalculatorModel", name := "clean", desc := "([IIZ)I" } : Jvm.MethodName)) ∈ lw_all := lw_g (lw_at lw_m10 108 rfl) rfl
theorem q2400 : (Jvm.Cond.privateMethod ({ cls := "GameCalculatorModel", name := "clean", desc := "([IIZ)I" } : Jvm.MethodName)) ∈ lw_tbl := lw_at lw_m10 109 rfl
theorem q2401 : (Jvm.Cond.instanceMethod ({ cls := "GameCalculatorModel", name := "clean", desc := "([IIZ)I" } : Jvm.MethodName)) ∈ lw_all := lw_g (lw_at lw_m10 110 rfl) rfl
theorem q2402 : (Jvm.Cond.code ({ cls := "GameCalculatorModel", name := "clean", desc := "([IIZ)I" } : Jvm.MethodName) prog_18_method_18_code (9 : Nat) (Option.some Jvm.ClassFile.FieldType.int)) ∈ lw_all := lw_g (lw_at lw_m10 111 rfl) rfl
theorem q2403 : (Jvm.Cond.constant "GameCalculatorModel" (195 : Nat) (-2000000009 : Int32)) ∈ lw_all := lw_g (lw_at lw_m10 112 rfl) rfl
theorem q2404 : (Jvm.Cond.methodLink "GameCalculatorModel" (196 : Nat) ({ cls := "GameCalculatorModel", name := "reversing", desc := "(IZ)I" } : Jvm.MethodName)) ∈ lw_all := lw_g (lw_at lw_m10 113 rfl) rfl
theorem q2405 : (Jvm.Cond.privateMethod ({ cls := "GameCalculatorModel", name := "reversing", desc := "(IZ)I" } : Jvm.MethodName)) ∈ lw_tbl := lw_at lw_m10 114 rfl
theorem q2406 : (Jvm.Cond.instanceMethod ({ cls := "GameCalculatorModel", name := "reversing", desc := "(IZ)I" } : Jvm.MethodName)) ∈ lw_all := lw_g (lw_at lw_m10 115 rfl) rfl
theorem q2407 : (Jvm.Cond.code ({ cls := "GameCalculatorModel", name := "reversing", desc := "(IZ)I" } : Jvm.MethodName) prog_18_method_17_code (6 : Nat) (Option.some Jvm.ClassFile.FieldType.int)) ∈ lw_all := lw_g (lw_at lw_m10 116 rfl) rfl
theorem q2408 : (Jvm.Cond.methodLink "GameCalculatorModel" (200 : Nat) ({ cls := "GameCalculatorModel", name := "isDominated", desc := "(IZ)Z" } : Jvm.MethodName)) ∈ lw_all := lw_g (lw_at lw_m10 117 rfl) rfl
theorem q2409 : (Jvm.Cond.privateMethod ({ cls := "GameCalculatorModel", name := "isDominated", desc := "(IZ)Z" } : Jvm.MethodName)) ∈ lw_tbl := lw_at lw_m10 118 rfl
theorem q2410 : (Jvm.Cond.instanceMethod ({ cls := "GameCalculatorModel", name := "isDominated", desc := "(IZ)Z" } : Jvm.MethodName)) ∈ lw_all := lw_g (lw_at lw_m10 119 rfl) rfl
theorem q2411 : (Jvm.Cond.code ({ cls := "GameCalculatorModel", name := "isDominated", desc := "(IZ)Z" } : Jvm.MethodName) prog_18_method_19_code (5 : Nat) (Option.some Jvm.ClassFile.FieldType.boolean)) ∈ lw_all := lw_g (lw_at lw_m10 120 rfl) rfl
theorem q2412 : (Jvm.Cond.methodLink "GameCalculatorModel" (211 : Nat) ({ cls := "GameCalculatorModel", name := "intern", desc := "()I" } : Jvm.MethodName)) ∈ lw_all := lw_g (lw_at lw_m10 121 rfl) rfl
theorem q2413 : (Jvm.Cond.privateMethod ({ cls := "GameCalculatorModel", name := "intern", desc := "()I" } : Jvm.MethodName)) ∈ lw_tbl := lw_at lw_m10 122 rfl
theorem q2414 : (Jvm.Cond.instanceMethod ({ cls := "GameCalculatorModel", name := "intern", desc := "()I" } : Jvm.MethodName)) ∈ lw_all := lw_g (lw_at lw_m10 123 rfl) rfl
theorem q2415 : (Jvm.Cond.code ({ cls := "GameCalculatorModel", name := "intern", desc := "()I" } : Jvm.MethodName) prog_18_method_12_code (4 : Nat) (Option.some Jvm.ClassFile.FieldType.int)) ∈ lw_all := lw_g (lw_at lw_m10 124 rfl) rfl
theorem q2416 : (Jvm.Cond.methodLink "GameCalculatorModel" (172 : Nat) ({ cls := "GameCalculatorModel", name := "sort", desc := "([II)V" } : Jvm.MethodName)) ∈ lw_all := lw_g (lw_at lw_m10 125 rfl) rfl
theorem q2417 : (Jvm.Cond.static ({ cls := "GameCalculatorModel", name := "sort", desc := "([II)V" } : Jvm.MethodName)) ∈ lw_all := lw_g (lw_at lw_m10 126 rfl) rfl
theorem q2418 : (Jvm.Cond.code ({ cls := "GameCalculatorModel", name := "sort", desc := "([II)V" } : Jvm.MethodName) prog_18_method_10_code (5 : Nat) (Option.none : Option Jvm.ClassFile.FieldType)) ∈ lw_all := lw_g (lw_at lw_m10 127 rfl) rfl
theorem q2419 : (Jvm.Cond.methodLink "GameCalculatorModel" (176 : Nat) ({ cls := "GameCalculatorModel", name := "isNode", desc := "(I)Z" } : Jvm.MethodName)) ∈ lw_all := lw_g (lw_at lw_m10 128 rfl) rfl
theorem q2420 : (Jvm.Cond.privateMethod ({ cls := "GameCalculatorModel", name := "isNode", desc := "(I)Z" } : Jvm.MethodName)) ∈ lw_tbl := lw_at lw_m10 129 rfl
theorem q2421 : (Jvm.Cond.instanceMethod ({ cls := "GameCalculatorModel", name := "isNode", desc := "(I)Z" } : Jvm.MethodName)) ∈ lw_all := lw_g (lw_at lw_m10 130 rfl) rfl
theorem q2422 : (Jvm.Cond.code ({ cls := "GameCalculatorModel", name := "isNode", desc := "(I)Z" } : Jvm.MethodName) prog_18_method_11_code (4 : Nat) (Option.some Jvm.ClassFile.FieldType.boolean)) ∈ lw_all := lw_g (lw_at lw_m10 131 rfl) rfl
theorem q2423 : (Jvm.Cond.methodLink "GameCalculatorModel" (180 : Nat) ({ cls := "GameCalculatorModel", name := "relate", desc := "(I)V" } : Jvm.MethodName)) ∈ lw_all := lw_g (lw_at lw_m10 132 rfl) rfl
theorem q2424 : (Jvm.Cond.privateMethod ({ cls := "GameCalculatorModel", name := "relate", desc := "(I)V" } : Jvm.MethodName)) ∈ lw_tbl := lw_at lw_m10 133 rfl
theorem q2425 : (Jvm.Cond.instanceMethod ({ cls := "GameCalculatorModel", name := "relate", desc := "(I)V" } : Jvm.MethodName)) ∈ lw_all := lw_g (lw_at lw_m10 134 rfl) rfl
theorem q2426 : (Jvm.Cond.code ({ cls := "GameCalculatorModel", name := "relate", desc := "(I)V" } : Jvm.MethodName) prog_18_method_15_code (6 : Nat) (Option.none : Option Jvm.ClassFile.FieldType)) ∈ lw_all := lw_g (lw_at lw_m10 135 rfl) rfl
theorem q2427 : (Jvm.Cond.methodLink "GameCalculatorModel" (270 : Nat) ({ cls := "GameCalculatorModel", name := "store", desc := "(I)Z" } : Jvm.MethodName)) ∈ lw_all := lw_g (lw_at lw_m10 136 rfl) rfl
theorem q2428 : (Jvm.Cond.privateMethod ({ cls := "GameCalculatorModel", name := "store", desc := "(I)Z" } : Jvm.MethodName)) ∈ lw_tbl := lw_at lw_m10 137 rfl
theorem q2429 : (Jvm.Cond.instanceMethod ({ cls := "GameCalculatorModel", name := "store", desc := "(I)Z" } : Jvm.MethodName)) ∈ lw_all := lw_g (lw_at lw_m10 138 rfl) rfl
theorem q2430 : (Jvm.Cond.code ({ cls := "GameCalculatorModel", name := "store", desc := "(I)Z" } : Jvm.MethodName) prog_18_method_26_code (8 : Nat) (Option.some Jvm.ClassFile.FieldType.boolean)) ∈ lw_all := lw_g (lw_at lw_m10 139 rfl) rfl
theorem q2431 : (Jvm.Cond.methodLink "GameCalculatorModel" (221 : Nat) ({ cls := "GameCalculatorModel", name := "reach", desc := "(I)I" } : Jvm.MethodName)) ∈ lw_all := lw_g (lw_at lw_m10 140 rfl) rfl
theorem q2432 : (Jvm.Cond.privateMethod ({ cls := "GameCalculatorModel", name := "reach", desc := "(I)I" } : Jvm.MethodName)) ∈ lw_tbl := lw_at lw_m10 141 rfl
theorem q2433 : (Jvm.Cond.instanceMethod ({ cls := "GameCalculatorModel", name := "reach", desc := "(I)I" } : Jvm.MethodName)) ∈ lw_all := lw_g (lw_at lw_m10 142 rfl) rfl
theorem q2434 : (Jvm.Cond.code ({ cls := "GameCalculatorModel", name := "reach", desc := "(I)I" } : Jvm.MethodName) prog_18_method_22_code (5 : Nat) (Option.some Jvm.ClassFile.FieldType.int)) ∈ lw_all := lw_g (lw_at lw_m10 143 rfl) rfl
theorem q2435 : (Jvm.Cond.methodLink "GameCalculatorModel" (225 : Nat) ({ cls := "GameCalculatorModel", name := "isAhead", desc := "(II)Z" } : Jvm.MethodName)) ∈ lw_all := lw_g (lw_at lw_m10 144 rfl) rfl
theorem q2436 : (Jvm.Cond.privateMethod ({ cls := "GameCalculatorModel", name := "isAhead", desc := "(II)Z" } : Jvm.MethodName)) ∈ lw_tbl := lw_at lw_m10 145 rfl
theorem q2437 : (Jvm.Cond.instanceMethod ({ cls := "GameCalculatorModel", name := "isAhead", desc := "(II)Z" } : Jvm.MethodName)) ∈ lw_all := lw_g (lw_at lw_m10 146 rfl) rfl
theorem q2438 : (Jvm.Cond.code ({ cls := "GameCalculatorModel", name := "isAhead", desc := "(II)Z" } : Jvm.MethodName) prog_18_method_25_code (4 : Nat) (Option.some Jvm.ClassFile.FieldType.boolean)) ∈ lw_all := lw_g (lw_at lw_m10 147 rfl) rfl
theorem q2439 : (Jvm.Cond.methodLink "GameCalculatorModel" (215 : Nat) ({ cls := "GameCalculatorModel", name := "bits", desc := "(IZ)I" } : Jvm.MethodName)) ∈ lw_all := lw_g (lw_at lw_m10 148 rfl) rfl
theorem q2440 : (Jvm.Cond.privateMethod ({ cls := "GameCalculatorModel", name := "bits", desc := "(IZ)I" } : Jvm.MethodName)) ∈ lw_tbl := lw_at lw_m10 149 rfl
theorem q2441 : (Jvm.Cond.instanceMethod ({ cls := "GameCalculatorModel", name := "bits", desc := "(IZ)I" } : Jvm.MethodName)) ∈ lw_all := lw_g (lw_at lw_m10 150 rfl) rfl
theorem q2442 : (Jvm.Cond.code ({ cls := "GameCalculatorModel", name := "bits", desc := "(IZ)I" } : Jvm.MethodName) prog_18_method_23_code (5 : Nat) (Option.some Jvm.ClassFile.FieldType.int)) ∈ lw_all := lw_g (lw_at lw_m10 151 rfl) rfl
theorem q2443 : (Jvm.Cond.methodLink "GameCalculatorModel" (218 : Nat) ({ cls := "GameCalculatorModel", name := "compareLists", desc := "(II)I" } : Jvm.MethodName)) ∈ lw_all := lw_g (lw_at lw_m10 152 rfl) rfl
theorem q2444 : (Jvm.Cond.static ({ cls := "GameCalculatorModel", name := "compareLists", desc := "(II)I" } : Jvm.MethodName)) ∈ lw_all := lw_g (lw_at lw_m10 153 rfl) rfl
theorem q2445 : (Jvm.Cond.code ({ cls := "GameCalculatorModel", name := "compareLists", desc := "(II)I" } : Jvm.MethodName) prog_18_method_24_code (6 : Nat) (Option.some Jvm.ClassFile.FieldType.int)) ∈ lw_all := lw_g (lw_at lw_m10 154 rfl) rfl
theorem q2446 : (Jvm.Cond.fieldLink "GameCalculatorModel" (146 : Nat) "GameCalculatorModel" "thrown" "I") ∈ lw_all := lw_g (lw_at lw_m10 155 rfl) rfl
theorem q2447 : (Jvm.Cond.fieldLink "GameCalculatorModel" (9 : Nat) "GameCalculatorModel" "slots" "[I") ∈ lw_all := lw_g (lw_at lw_m10 156 rfl) rfl
theorem q2448 : (Jvm.Cond.fieldLink "GameCalculatorModel" (13 : Nat) "GameCalculatorModel" "saved" "[I") ∈ lw_all := lw_g (lw_at lw_m10 157 rfl) rfl
theorem q2449 : (Jvm.Cond.fieldLink "GameCalculatorModel" (157 : Nat) "GameCalculatorModel" "savedMany" "I") ∈ lw_all := lw_g (lw_at lw_m10 158 rfl) rfl
theorem q2450 : (Jvm.Cond.fieldLink "GameCalculatorModel" (16 : Nat) "GameCalculatorModel" "draftRows" "[I") ∈ lw_all := lw_g (lw_at lw_m10 159 rfl) rfl
theorem q2451 : (Jvm.Cond.fieldLink "GameCalculatorModel" (19 : Nat) "GameCalculatorModel" "draftMany" "[I") ∈ lw_all := lw_g (lw_at lw_m10 160 rfl) rfl
theorem q2452 : (Jvm.Cond.fieldLink "GameCalculatorModel" (22 : Nat) "GameCalculatorModel" "signs" "[I") ∈ lw_all := lw_g (lw_at lw_m10 161 rfl) rfl
theorem q2453 : (Jvm.Cond.fieldLink "GameCalculatorModel" (358 : Nat) "GameCalculatorModel" "signMany" "I") ∈ lw_all := lw_g (lw_at lw_m10 162 rfl) rfl
theorem q2454 : (Jvm.Cond.fieldLink "GameCalculatorModel" (25 : Nat) "GameCalculatorModel" "text" "[I") ∈ lw_all := lw_g (lw_at lw_m10 163 rfl) rfl
theorem q2455 : (Jvm.Cond.fieldLink "GameCalculatorModel" (361 : Nat) "GameCalculatorModel" "length" "I") ∈ lw_all := lw_g (lw_at lw_m10 164 rfl) rfl
theorem q2456 : (Jvm.Cond.fieldLink "GameCalculatorModel" (28 : Nat) "GameCalculatorModel" "ups" "[I") ∈ lw_all := lw_g (lw_at lw_m10 165 rfl) rfl
theorem q2457 : (Jvm.Cond.fieldLink "GameCalculatorModel" (160 : Nat) "GameCalculatorModel" "nodes" "I") ∈ lw_all := lw_g (lw_at lw_m10 166 rfl) rfl
theorem q2458 : (Jvm.Cond.fieldLink "GameCalculatorModel" (31 : Nat) "GameCalculatorModel" "begin" "[I") ∈ lw_all := lw_g (lw_at lw_m10 167 rfl) rfl
theorem q2459 : (Jvm.Cond.fieldLink "GameCalculatorModel" (34 : Nat) "GameCalculatorModel" "leftMany" "[I") ∈ lw_all := lw_g (lw_at lw_m10 168 rfl) rfl
theorem q2460 : (Jvm.Cond.fieldLink "GameCalculatorModel" (37 : Nat) "GameCalculatorModel" "rightMany" "[I") ∈ lw_all := lw_g (lw_at lw_m10 169 rfl) rfl
theorem q2461 : (Jvm.Cond.fieldLink "GameCalculatorModel" (40 : Nat) "GameCalculatorModel" "birth" "[I") ∈ lw_all := lw_g (lw_at lw_m10 170 rfl) rfl
theorem q2462 : (Jvm.Cond.fieldLink "GameCalculatorModel" (44 : Nat) "GameCalculatorModel" "pool" "[I") ∈ lw_all := lw_g (lw_at lw_m10 171 rfl) rfl
theorem q2463 : (Jvm.Cond.fieldLink "GameCalculatorModel" (163 : Nat) "GameCalculatorModel" "pooled" "I") ∈ lw_all := lw_g (lw_at lw_m10 172 rfl) rfl
theorem q2464 : (Jvm.Cond.fieldLink "GameCalculatorModel" (48 : Nat) "GameCalculatorModel" "isAtMost" "[Z") ∈ lw_all := lw_g (lw_at lw_m10 173 rfl) rfl
theorem q2465 : (Jvm.Cond.fieldLink "GameCalculatorModel" (52 : Nat) "GameCalculatorModel" "lefts" "[I") ∈ lw_all := lw_g (lw_at lw_m10 174 rfl) rfl
theorem q2466 : (Jvm.Cond.fieldLink "GameCalculatorModel" (55 : Nat) "GameCalculatorModel" "rights" "[I") ∈ lw_all := lw_g (lw_at lw_m10 175 rfl) rfl
theorem q2467 : (Jvm.Cond.fieldLink "GameCalculatorModel" (166 : Nat) "GameCalculatorModel" "leftCount" "I") ∈ lw_all := lw_g (lw_at lw_m10 176 rfl) rfl
theorem q2468 : (Jvm.Cond.fieldLink "GameCalculatorModel" (169 : Nat) "GameCalculatorModel" "rightCount" "I") ∈ lw_all := lw_g (lw_at lw_m10 177 rfl) rfl
theorem q2469 : (Jvm.Cond.fieldLink "GameCalculatorModel" (58 : Nat) "GameCalculatorModel" "isLow" "[Z") ∈ lw_all := lw_g (lw_at lw_m10 178 rfl) rfl
theorem q2470 : (Jvm.Cond.fieldLink "GameCalculatorModel" (61 : Nat) "GameCalculatorModel" "isHigh" "[Z") ∈ lw_all := lw_g (lw_at lw_m10 179 rfl) rfl
theorem q2471 : (Jvm.Cond.fieldLink "GameCalculatorModel" (64 : Nat) "GameCalculatorModel" "isKept" "[Z") ∈ lw_all := lw_g (lw_at lw_m10 180 rfl) rfl
theorem q2472 : (Jvm.Cond.fieldLink "GameCalculatorModel" (67 : Nat) "GameCalculatorModel" "open" "[I") ∈ lw_all := lw_g (lw_at lw_m10 181 rfl) rfl
theorem q2473 : (Jvm.Cond.fieldLink "GameCalculatorModel" (70 : Nat) "GameCalculatorModel" "map" "[I") ∈ lw_all := lw_g (lw_at lw_m10 182 rfl) rfl
theorem q2474 : (Jvm.Cond.fieldLink "GameCalculatorModel" (73 : Nat) "GameCalculatorModel" "isReached" "[Z") ∈ lw_all := lw_g (lw_at lw_m10 183 rfl) rfl
theorem q2475 : (Jvm.Cond.fieldLink "GameCalculatorModel" (76 : Nat) "GameCalculatorModel" "rank" "[I") ∈ lw_all := lw_g (lw_at lw_m10 184 rfl) rfl
theorem q2476 : (Jvm.Cond.fieldLink "GameCalculatorModel" (79 : Nat) "GameCalculatorModel" "byRank" "[I") ∈ lw_all := lw_g (lw_at lw_m10 185 rfl) rfl
theorem q2477 : (Jvm.Cond.fieldLink "GameCalculatorModel" (82 : Nat) "GameCalculatorModel" "result" "[I") ∈ lw_all := lw_g (lw_at lw_m10 186 rfl) rfl
theorem q2478 : (Jvm.Cond.fieldLink "GameCalculatorModel" (85 : Nat) "GameCalculatorModel" "values" "[J") ∈ lw_all := lw_g (lw_at lw_m10 187 rfl) rfl
theorem q2479 : (Jvm.Cond.fieldLink "GameCalculatorModel" (89 : Nat) "GameCalculatorModel" "isValue" "[Z") ∈ lw_all := lw_g (lw_at lw_m10 188 rfl) rfl
theorem q2480 : (Jvm.Cond.fieldLink "GameCalculatorModel" (92 : Nat) "GameCalculatorModel" "first" "[I") ∈ lw_all := lw_g (lw_at lw_m10 189 rfl) rfl
theorem q2481 : (Jvm.Cond.fieldLink "GameCalculatorModel" (95 : Nat) "GameCalculatorModel" "second" "[I") ∈ lw_all := lw_g (lw_at lw_m10 190 rfl) rfl
theorem q2482 : (Jvm.Cond.fieldLink "GameCalculatorModel" (98 : Nat) "GameCalculatorModel" "firstNodes" "[I") ∈ lw_all := lw_g (lw_at lw_m10 191 rfl) rfl
theorem q2483 : (Jvm.Cond.fieldLink "GameCalculatorModel" (101 : Nat) "GameCalculatorModel" "secondNodes" "[I") ∈ lw_all := lw_g (lw_at lw_m10 192 rfl) rfl
theorem q2484 : (Jvm.Cond.fieldLink "GameCalculatorModel" (104 : Nat) "GameCalculatorModel" "table" "[I") ∈ lw_all := lw_g (lw_at lw_m10 193 rfl) rfl
theorem q2485 : (Jvm.Cond.fieldLink "GameCalculatorModel" (107 : Nat) "GameCalculatorModel" "drafted" "[I") ∈ lw_all := lw_g (lw_at lw_m10 194 rfl) rfl
theorem q2486 : (Jvm.Cond.fieldLink "GameCalculatorModel" (110 : Nat) "GameCalculatorModel" "boards" "[I") ∈ lw_all := lw_g (lw_at lw_m10 195 rfl) rfl
theorem q2487 : (Jvm.Cond.fieldLink "GameCalculatorModel" (364 : Nat) "GameCalculatorModel" "at" "I") ∈ lw_all := lw_g (lw_at lw_m10 196 rfl) rfl
theorem q2488 : (Jvm.Cond.fieldLink "GameCalculatorModel" (404 : Nat) "GameCalculatorModel" "due" "I") ∈ lw_all := lw_g (lw_at lw_m10 197 rfl) rfl
theorem q2489 : (Jvm.Cond.fieldLink "GameCalculatorModel" (382 : Nat) "GameCalculatorModel" "isWrong" "Z") ∈ lw_all := lw_g (lw_at lw_m10 198 rfl) rfl
theorem q2490 : (Jvm.Cond.fieldLink "GameCalculatorModel" (386 : Nat) "GameCalculatorModel" "isRun" "Z") ∈ lw_all := lw_g (lw_at lw_m10 199 rfl) rfl
theorem q2491 : (Jvm.Cond.fieldLink "GameCalculatorModel" (389 : Nat) "GameCalculatorModel" "isFull" "Z") ∈ lw_all := lw_g (lw_at lw_m10 200 rfl) rfl
theorem q2492 : (Jvm.Cond.fieldLink "GameCalculatorModel" (398 : Nat) "GameCalculatorModel" "depth" "I") ∈ lw_all := lw_g (lw_at lw_m10 201 rfl) rfl
theorem q2493 : (Jvm.Cond.fieldLink "GameCalculatorModel" (113 : Nat) "GameCalculatorModel" "kinds" "[I") ∈ lw_all := lw_g (lw_at lw_m10 202 rfl) rfl
theorem q2494 : (Jvm.Cond.fieldLink "GameCalculatorModel" (116 : Nat) "GameCalculatorModel" "isMinus" "[Z") ∈ lw_all := lw_g (lw_at lw_m10 203 rfl) rfl
theorem q2495 : (Jvm.Cond.fieldLink "GameCalculatorModel" (119 : Nat) "GameCalculatorModel" "hasSum" "[Z") ∈ lw_all := lw_g (lw_at lw_m10 204 rfl) rfl
theorem q2496 : (Jvm.Cond.fieldLink "GameCalculatorModel" (122 : Nat) "GameCalculatorModel" "sums" "[I") ∈ lw_all := lw_g (lw_at lw_m10 205 rfl) rfl
theorem q2497 : (Jvm.Cond.fieldLink "GameCalculatorModel" (125 : Nat) "GameCalculatorModel" "elementMany" "[I") ∈ lw_all := lw_g (lw_at lw_m10 206 rfl) rfl
theorem q2498 : (Jvm.Cond.fieldLink "GameCalculatorModel" (128 : Nat) "GameCalculatorModel" "elements" "[I") ∈ lw_all := lw_g (lw_at lw_m10 207 rfl) rfl
theorem q2499 : (Jvm.Cond.fieldLink "GameCalculatorModel" (131 : Nat) "GameCalculatorModel" "term" "[I") ∈ lw_all := lw_g (lw_at lw_m10 208 rfl) rfl
theorem q2500 : (Jvm.Cond.fieldLink "GameCalculatorModel" (373 : Nat) "GameCalculatorModel" "figures" "I") ∈ lw_all := lw_g (lw_at lw_m10 209 rfl) rfl
theorem q2501 : (Jvm.Cond.fieldLink "GameCalculatorModel" (134 : Nat) "GameCalculatorModel" "heats" "[J") ∈ lw_all := lw_g (lw_at lw_m10 210 rfl) rfl
theorem q2502 : (Jvm.Cond.fieldLink "GameCalculatorModel" (137 : Nat) "GameCalculatorModel" "means" "[J") ∈ lw_all := lw_g (lw_at lw_m10 211 rfl) rfl
theorem q2503 : (Jvm.Cond.fieldLink "GameCalculatorModel" (140 : Nat) "GameCalculatorModel" "leftWall" "[J") ∈ lw_all := lw_g (lw_at lw_m10 212 rfl) rfl
theorem q2504 : (Jvm.Cond.fieldLink "GameCalculatorModel" (143 : Nat) "GameCalculatorModel" "rightWall" "[J") ∈ lw_all := lw_g (lw_at lw_m10 213 rfl) rfl
theorem q2505 : (Jvm.Cond.lays "GameCalculatorModel" "GameCalculatorModel" "thrown" "I") ∈ lw_all := lw_g (lw_at lw_m10 214 rfl) rfl
theorem q2506 : (Jvm.Cond.soleField "GameCalculatorModel" "thrown") ∈ lw_all := lw_g (lw_at lw_m10 215 rfl) rfl
theorem q2507 : (Jvm.Cond.laysFinal "GameCalculatorModel" "GameCalculatorModel" "slots" "[I") ∈ lw_all := lw_g (lw_at lw_m10 216 rfl) rfl
theorem q2508 : (Jvm.Cond.soleField "GameCalculatorModel" "slots") ∈ lw_all := lw_g (lw_at lw_m10 217 rfl) rfl
theorem q2509 : (Jvm.Cond.laysFinal "GameCalculatorModel" "GameCalculatorModel" "saved" "[I") ∈ lw_all := lw_g (lw_at lw_m10 218 rfl) rfl
theorem q2510 : (Jvm.Cond.soleField "GameCalculatorModel" "saved") ∈ lw_all := lw_g (lw_at lw_m10 219 rfl) rfl
theorem q2511 : (Jvm.Cond.lays "GameCalculatorModel" "GameCalculatorModel" "savedMany" "I") ∈ lw_all := lw_g (lw_at lw_m10 220 rfl) rfl
theorem q2512 : (Jvm.Cond.soleField "GameCalculatorModel" "savedMany") ∈ lw_all := lw_g (lw_at lw_m10 221 rfl) rfl
theorem q2513 : (Jvm.Cond.laysFinal "GameCalculatorModel" "GameCalculatorModel" "draftRows" "[I") ∈ lw_all := lw_g (lw_at lw_m10 222 rfl) rfl
theorem q2514 : (Jvm.Cond.soleField "GameCalculatorModel" "draftRows") ∈ lw_all := lw_g (lw_at lw_m10 223 rfl) rfl
theorem q2515 : (Jvm.Cond.laysFinal "GameCalculatorModel" "GameCalculatorModel" "draftMany" "[I") ∈ lw_all := lw_g (lw_at lw_m10 224 rfl) rfl
theorem q2516 : (Jvm.Cond.soleField "GameCalculatorModel" "draftMany") ∈ lw_all := lw_g (lw_at lw_m10 225 rfl) rfl
theorem q2517 : (Jvm.Cond.laysFinal "GameCalculatorModel" "GameCalculatorModel" "signs" "[I") ∈ lw_all := lw_g (lw_at lw_m10 226 rfl) rfl
theorem q2518 : (Jvm.Cond.soleField "GameCalculatorModel" "signs") ∈ lw_all := lw_g (lw_at lw_m10 227 rfl) rfl
theorem q2519 : (Jvm.Cond.lays "GameCalculatorModel" "GameCalculatorModel" "signMany" "I") ∈ lw_all := lw_g (lw_at lw_m10 228 rfl) rfl
theorem q2520 : (Jvm.Cond.soleField "GameCalculatorModel" "signMany") ∈ lw_all := lw_g (lw_at lw_m10 229 rfl) rfl
theorem q2521 : (Jvm.Cond.laysFinal "GameCalculatorModel" "GameCalculatorModel" "text" "[I") ∈ lw_all := lw_g (lw_at lw_m10 230 rfl) rfl
theorem q2522 : (Jvm.Cond.soleField "GameCalculatorModel" "text") ∈ lw_all := lw_g (lw_at lw_m10 231 rfl) rfl
theorem q2523 : (Jvm.Cond.lays "GameCalculatorModel" "GameCalculatorModel" "length" "I") ∈ lw_all := lw_g (lw_at lw_m10 232 rfl) rfl
theorem q2524 : (Jvm.Cond.soleField "GameCalculatorModel" "length") ∈ lw_all := lw_g (lw_at lw_m10 233 rfl) rfl
theorem q2525 : (Jvm.Cond.laysFinal "GameCalculatorModel" "GameCalculatorModel" "ups" "[I") ∈ lw_all := lw_g (lw_at lw_m10 234 rfl) rfl
theorem q2526 : (Jvm.Cond.soleField "GameCalculatorModel" "ups") ∈ lw_all := lw_g (lw_at lw_m10 235 rfl) rfl
theorem q2527 : (Jvm.Cond.lays "GameCalculatorModel" "GameCalculatorModel" "nodes" "I") ∈ lw_all := lw_g (lw_at lw_m10 236 rfl) rfl
theorem q2528 : (Jvm.Cond.soleField "GameCalculatorModel" "nodes") ∈ lw_all := lw_g (lw_at lw_m10 237 rfl) rfl
theorem q2529 : (Jvm.Cond.laysFinal "GameCalculatorModel" "GameCalculatorModel" "begin" "[I") ∈ lw_all := lw_g (lw_at lw_m10 238 rfl) rfl
theorem q2530 : (Jvm.Cond.soleField "GameCalculatorModel" "begin") ∈ lw_all := lw_g (lw_at lw_m10 239 rfl) rfl
theorem q2531 : (Jvm.Cond.laysFinal "GameCalculatorModel" "GameCalculatorModel" "leftMany" "[I") ∈ lw_all := lw_g (lw_at lw_m11 0 rfl) rfl
theorem q2532 : (Jvm.Cond.soleField "GameCalculatorModel" "leftMany") ∈ lw_all := lw_g (lw_at lw_m11 1 rfl) rfl
theorem q2533 : (Jvm.Cond.laysFinal "GameCalculatorModel" "GameCalculatorModel" "rightMany" "[I") ∈ lw_all := lw_g (lw_at lw_m11 2 rfl) rfl
theorem q2534 : (Jvm.Cond.soleField "GameCalculatorModel" "rightMany") ∈ lw_all := lw_g (lw_at lw_m11 3 rfl) rfl
theorem q2535 : (Jvm.Cond.laysFinal "GameCalculatorModel" "GameCalculatorModel" "birth" "[I") ∈ lw_all := lw_g (lw_at lw_m11 4 rfl) rfl
theorem q2536 : (Jvm.Cond.soleField "GameCalculatorModel" "birth") ∈ lw_all := lw_g (lw_at lw_m11 5 rfl) rfl
theorem q2537 : (Jvm.Cond.laysFinal "GameCalculatorModel" "GameCalculatorModel" "pool" "[I") ∈ lw_all := lw_g (lw_at lw_m11 6 rfl) rfl
theorem q2538 : (Jvm.Cond.soleField "GameCalculatorModel" "pool") ∈ lw_all := lw_g (lw_at lw_m11 7 rfl) rfl
theorem q2539 : (Jvm.Cond.lays "GameCalculatorModel" "GameCalculatorModel" "pooled" "I") ∈ lw_all := lw_g (lw_at lw_m11 8 rfl) rfl
theorem q2540 : (Jvm.Cond.soleField "GameCalculatorModel" "pooled") ∈ lw_all := lw_g (lw_at lw_m11 9 rfl) rfl
theorem q2541 : (Jvm.Cond.laysFinal "GameCalculatorModel" "GameCalculatorModel" "isAtMost" "[Z") ∈ lw_all := lw_g (lw_at lw_m11 10 rfl) rfl
theorem q2542 : (Jvm.Cond.soleField "GameCalculatorModel" "isAtMost") ∈ lw_all := lw_g (lw_at lw_m11 11 rfl) rfl
theorem q2543 : (Jvm.Cond.laysFinal "GameCalculatorModel" "GameCalculatorModel" "lefts" "[I") ∈ lw_all := lw_g (lw_at lw_m11 12 rfl) rfl
theorem q2544 : (Jvm.Cond.soleField "GameCalculatorModel" "lefts") ∈ lw_all := lw_g (lw_at lw_m11 13 rfl) rfl
theorem q2545 : (Jvm.Cond.laysFinal "GameCalculatorModel" "GameCalculatorModel" "rights" "[I") ∈ lw_all := lw_g (lw_at lw_m11 14 rfl) rfl
theorem q2546 : (Jvm.Cond.soleField "GameCalculatorModel" "rights") ∈ lw_all := lw_g (lw_at lw_m11 15 rfl) rfl
theorem q2547 : (Jvm.Cond.lays "GameCalculatorModel" "GameCalculatorModel" "leftCount" "I") ∈ lw_all := lw_g (lw_at lw_m11 16 rfl) rfl
theorem q2548 : (Jvm.Cond.soleField "GameCalculatorModel" "leftCount") ∈ lw_all := lw_g (lw_at lw_m11 17 rfl) rfl
theorem q2549 : (Jvm.Cond.lays "GameCalculatorModel" "GameCalculatorModel" "rightCount" "I") ∈ lw_all := lw_g (lw_at lw_m11 18 rfl) rfl
theorem q2550 : (Jvm.Cond.soleField "GameCalculatorModel" "rightCount") ∈ lw_all := lw_g (lw_at lw_m11 19 rfl) rfl
theorem q2551 : (Jvm.Cond.laysFinal "GameCalculatorModel" "GameCalculatorModel" "isLow" "[Z") ∈ lw_all := lw_g (lw_at lw_m11 20 rfl) rfl
theorem q2552 : (Jvm.Cond.soleField "GameCalculatorModel" "isLow") ∈ lw_all := lw_g (lw_at lw_m11 21 rfl) rfl
theorem q2553 : (Jvm.Cond.laysFinal "GameCalculatorModel" "GameCalculatorModel" "isHigh" "[Z") ∈ lw_all := lw_g (lw_at lw_m11 22 rfl) rfl
theorem q2554 : (Jvm.Cond.soleField "GameCalculatorModel" "isHigh") ∈ lw_all := lw_g (lw_at lw_m11 23 rfl) rfl
theorem q2555 : (Jvm.Cond.laysFinal "GameCalculatorModel" "GameCalculatorModel" "isKept" "[Z") ∈ lw_all := lw_g (lw_at lw_m11 24 rfl) rfl
theorem q2556 : (Jvm.Cond.soleField "GameCalculatorModel" "isKept") ∈ lw_all := lw_g (lw_at lw_m11 25 rfl) rfl
theorem q2557 : (Jvm.Cond.laysFinal "GameCalculatorModel" "GameCalculatorModel" "open" "[I") ∈ lw_all := lw_g (lw_at lw_m11 26 rfl) rfl
theorem q2558 : (Jvm.Cond.soleField "GameCalculatorModel" "open") ∈ lw_all := lw_g (lw_at lw_m11 27 rfl) rfl
theorem q2559 : (Jvm.Cond.laysFinal "GameCalculatorModel" "GameCalculatorModel" "map" "[I") ∈ lw_all := lw_g (lw_at lw_m11 28 rfl) rfl
theorem q2560 : (Jvm.Cond.soleField "GameCalculatorModel" "map") ∈ lw_all := lw_g (lw_at lw_m11 29 rfl) rfl
theorem q2561 : (Jvm.Cond.laysFinal "GameCalculatorModel" "GameCalculatorModel" "isReached" "[Z") ∈ lw_all := lw_g (lw_at lw_m11 30 rfl) rfl
theorem q2562 : (Jvm.Cond.soleField "GameCalculatorModel" "isReached") ∈ lw_all := lw_g (lw_at lw_m11 31 rfl) rfl
theorem q2563 : (Jvm.Cond.laysFinal "GameCalculatorModel" "GameCalculatorModel" "rank" "[I") ∈ lw_all := lw_g (lw_at lw_m11 32 rfl) rfl
theorem q2564 : (Jvm.Cond.soleField "GameCalculatorModel" "rank") ∈ lw_all := lw_g (lw_at lw_m11 33 rfl) rfl
theorem q2565 : (Jvm.Cond.laysFinal "GameCalculatorModel" "GameCalculatorModel" "byRank" "[I") ∈ lw_all := lw_g (lw_at lw_m11 34 rfl) rfl
theorem q2566 : (Jvm.Cond.soleField "GameCalculatorModel" "byRank") ∈ lw_all := lw_g (lw_at lw_m11 35 rfl) rfl
theorem q2567 : (Jvm.Cond.laysFinal "GameCalculatorModel" "GameCalculatorModel" "result" "[I") ∈ lw_all := lw_g (lw_at lw_m11 36 rfl) rfl
theorem q2568 : (Jvm.Cond.soleField "GameCalculatorModel" "result") ∈ lw_all := lw_g (lw_at lw_m11 37 rfl) rfl
theorem q2569 : (Jvm.Cond.laysFinal "GameCalculatorModel" "GameCalculatorModel" "values" "[J") ∈ lw_all := lw_g (lw_at lw_m11 38 rfl) rfl
theorem q2570 : (Jvm.Cond.soleField "GameCalculatorModel" "values") ∈ lw_all := lw_g (lw_at lw_m11 39 rfl) rfl
theorem q2571 : (Jvm.Cond.laysFinal "GameCalculatorModel" "GameCalculatorModel" "isValue" "[Z") ∈ lw_all := lw_g (lw_at lw_m11 40 rfl) rfl
theorem q2572 : (Jvm.Cond.soleField "GameCalculatorModel" "isValue") ∈ lw_all := lw_g (lw_at lw_m11 41 rfl) rfl
theorem q2573 : (Jvm.Cond.laysFinal "GameCalculatorModel" "GameCalculatorModel" "first" "[I") ∈ lw_all := lw_g (lw_at lw_m11 42 rfl) rfl
theorem q2574 : (Jvm.Cond.soleField "GameCalculatorModel" "first") ∈ lw_all := lw_g (lw_at lw_m11 43 rfl) rfl
theorem q2575 : (Jvm.Cond.laysFinal "GameCalculatorModel" "GameCalculatorModel" "second" "[I") ∈ lw_all := lw_g (lw_at lw_m11 44 rfl) rfl
theorem q2576 : (Jvm.Cond.soleField "GameCalculatorModel" "second") ∈ lw_all := lw_g (lw_at lw_m11 45 rfl) rfl
theorem q2577 : (Jvm.Cond.laysFinal "GameCalculatorModel" "GameCalculatorModel" "firstNodes" "[I") ∈ lw_all := lw_g (lw_at lw_m11 46 rfl) rfl
theorem q2578 : (Jvm.Cond.soleField "GameCalculatorModel" "firstNodes") ∈ lw_all := lw_g (lw_at lw_m11 47 rfl) rfl
theorem q2579 : (Jvm.Cond.laysFinal "GameCalculatorModel" "GameCalculatorModel" "secondNodes" "[I") ∈ lw_all := lw_g (lw_at lw_m11 48 rfl) rfl
theorem q2580 : (Jvm.Cond.soleField "GameCalculatorModel" "secondNodes") ∈ lw_all := lw_g (lw_at lw_m11 49 rfl) rfl
theorem q2581 : (Jvm.Cond.laysFinal "GameCalculatorModel" "GameCalculatorModel" "table" "[I") ∈ lw_all := lw_g (lw_at lw_m11 50 rfl) rfl
theorem q2582 : (Jvm.Cond.soleField "GameCalculatorModel" "table") ∈ lw_all := lw_g (lw_at lw_m11 51 rfl) rfl
theorem q2583 : (Jvm.Cond.laysFinal "GameCalculatorModel" "GameCalculatorModel" "drafted" "[I") ∈ lw_all := lw_g (lw_at lw_m11 52 rfl) rfl
theorem q2584 : (Jvm.Cond.soleField "GameCalculatorModel" "drafted") ∈ lw_all := lw_g (lw_at lw_m11 53 rfl) rfl
theorem q2585 : (Jvm.Cond.laysFinal "GameCalculatorModel" "GameCalculatorModel" "boards" "[I") ∈ lw_all := lw_g (lw_at lw_m11 54 rfl) rfl
theorem q2586 : (Jvm.Cond.soleField "GameCalculatorModel" "boards") ∈ lw_all := lw_g (lw_at lw_m11 55 rfl) rfl
theorem q2587 : (Jvm.Cond.lays "GameCalculatorModel" "GameCalculatorModel" "at" "I") ∈ lw_all := lw_g (lw_at lw_m11 56 rfl) rfl
theorem q2588 : (Jvm.Cond.soleField "GameCalculatorModel" "at") ∈ lw_all := lw_g (lw_at lw_m11 57 rfl) rfl
theorem q2589 : (Jvm.Cond.lays "GameCalculatorModel" "GameCalculatorModel" "due" "I") ∈ lw_all := lw_g (lw_at lw_m11 58 rfl) rfl
theorem q2590 : (Jvm.Cond.soleField "GameCalculatorModel" "due") ∈ lw_all := lw_g (lw_at lw_m11 59 rfl) rfl
theorem q2591 : (Jvm.Cond.lays "GameCalculatorModel" "GameCalculatorModel" "isWrong" "Z") ∈ lw_all := lw_g (lw_at lw_m11 60 rfl) rfl
theorem q2592 : (Jvm.Cond.soleField "GameCalculatorModel" "isWrong") ∈ lw_all := lw_g (lw_at lw_m11 61 rfl) rfl
theorem q2593 : (Jvm.Cond.lays "GameCalculatorModel" "GameCalculatorModel" "isRun" "Z") ∈ lw_all := lw_g (lw_at lw_m11 62 rfl) rfl
theorem q2594 : (Jvm.Cond.soleField "GameCalculatorModel" "isRun") ∈ lw_all := lw_g (lw_at lw_m11 63 rfl) rfl
theorem q2595 : (Jvm.Cond.lays "GameCalculatorModel" "GameCalculatorModel" "isFull" "Z") ∈ lw_all := lw_g (lw_at lw_m11 64 rfl) rfl
theorem q2596 : (Jvm.Cond.soleField "GameCalculatorModel" "isFull") ∈ lw_all := lw_g (lw_at lw_m11 65 rfl) rfl
theorem q2597 : (Jvm.Cond.lays "GameCalculatorModel" "GameCalculatorModel" "depth" "I") ∈ lw_all := lw_g (lw_at lw_m11 66 rfl) rfl
theorem q2598 : (Jvm.Cond.soleField "GameCalculatorModel" "depth") ∈ lw_all := lw_g (lw_at lw_m11 67 rfl) rfl
theorem q2599 : (Jvm.Cond.laysFinal "GameCalculatorModel" "GameCalculatorModel" "kinds" "[I") ∈ lw_all := lw_g (lw_at lw_m11 68 rfl) rfl
theorem q2600 : (Jvm.Cond.soleField "GameCalculatorModel" "kinds") ∈ lw_all := lw_g (lw_at lw_m11 69 rfl) rfl
theorem q2601 : (Jvm.Cond.laysFinal "GameCalculatorModel" "GameCalculatorModel" "isMinus" "[Z") ∈ lw_all := lw_g (lw_at lw_m11 70 rfl) rfl
theorem q2602 : (Jvm.Cond.soleField "GameCalculatorModel" "isMinus") ∈ lw_all := lw_g (lw_at lw_m11 71 rfl) rfl
theorem q2603 : (Jvm.Cond.laysFinal "GameCalculatorModel" "GameCalculatorModel" "hasSum" "[Z") ∈ lw_all := lw_g (lw_at lw_m11 72 rfl) rfl
theorem q2604 : (Jvm.Cond.soleField "GameCalculatorModel" "hasSum") ∈ lw_all := lw_g (lw_at lw_m11 73 rfl) rfl
theorem q2605 : (Jvm.Cond.laysFinal "GameCalculatorModel" "GameCalculatorModel" "sums" "[I") ∈ lw_all := lw_g (lw_at lw_m11 74 rfl) rfl
theorem q2606 : (Jvm.Cond.soleField "GameCalculatorModel" "sums") ∈ lw_all := lw_g (lw_at lw_m11 75 rfl) rfl
theorem q2607 : (Jvm.Cond.laysFinal "GameCalculatorModel" "GameCalculatorModel" "elementMany" "[I") ∈ lw_all := lw_g (lw_at lw_m11 76 rfl) rfl
theorem q2608 : (Jvm.Cond.soleField "GameCalculatorModel" "elementMany") ∈ lw_all := lw_g (lw_at lw_m11 77 rfl) rfl
theorem q2609 : (Jvm.Cond.laysFinal "GameCalculatorModel" "GameCalculatorModel" "elements" "[I") ∈ lw_all := lw_g (lw_at lw_m11 78 rfl) rfl
theorem q2610 : (Jvm.Cond.soleField "GameCalculatorModel" "elements") ∈ lw_all := lw_g (lw_at lw_m11 79 rfl) rfl
theorem q2611 : (Jvm.Cond.laysFinal "GameCalculatorModel" "GameCalculatorModel" "term" "[I") ∈ lw_all := lw_g (lw_at lw_m11 80 rfl) rfl
theorem q2612 : (Jvm.Cond.soleField "GameCalculatorModel" "term") ∈ lw_all := lw_g (lw_at lw_m11 81 rfl) rfl
theorem q2613 : (Jvm.Cond.lays "GameCalculatorModel" "GameCalculatorModel" "figures" "I") ∈ lw_all := lw_g (lw_at lw_m11 82 rfl) rfl
theorem q2614 : (Jvm.Cond.soleField "GameCalculatorModel" "figures") ∈ lw_all := lw_g (lw_at lw_m11 83 rfl) rfl
theorem q2615 : (Jvm.Cond.laysFinal "GameCalculatorModel" "GameCalculatorModel" "heats" "[J") ∈ lw_all := lw_g (lw_at lw_m11 84 rfl) rfl
theorem q2616 : (Jvm.Cond.soleField "GameCalculatorModel" "heats") ∈ lw_all := lw_g (lw_at lw_m11 85 rfl) rfl
theorem q2617 : (Jvm.Cond.laysFinal "GameCalculatorModel" "GameCalculatorModel" "means" "[J") ∈ lw_all := lw_g (lw_at lw_m11 86 rfl) rfl
theorem q2618 : (Jvm.Cond.soleField "GameCalculatorModel" "means") ∈ lw_all := lw_g (lw_at lw_m11 87 rfl) rfl
theorem q2619 : (Jvm.Cond.laysFinal "GameCalculatorModel" "GameCalculatorModel" "leftWall" "[J") ∈ lw_all := lw_g (lw_at lw_m11 88 rfl) rfl
theorem q2620 : (Jvm.Cond.soleField "GameCalculatorModel" "leftWall") ∈ lw_all := lw_g (lw_at lw_m11 89 rfl) rfl
theorem q2621 : (Jvm.Cond.laysFinal "GameCalculatorModel" "GameCalculatorModel" "rightWall" "[J") ∈ lw_all := lw_g (lw_at lw_m11 90 rfl) rfl
theorem q2622 : (Jvm.Cond.soleField "GameCalculatorModel" "rightWall") ∈ lw_all := lw_g (lw_at lw_m11 91 rfl) rfl
theorem q2623 : (Jvm.Cond.superclass "GameCalculatorModel" "java/lang/Object") ∈ lw_all := lw_g (lw_at lw_m11 92 rfl) rfl
theorem q2626 : (Jvm.Cond.instanceMethod ({ cls := "GameCalculatorModel", name := "setNumber", desc := "(III)I" } : Jvm.MethodName)) ∈ lw_all := lw_g (lw_at lw_m11 95 rfl) rfl
theorem q2627 : (Jvm.Cond.selects "GameCalculatorModel" ({ cls := "GameCalculatorModel", name := "setNumber", desc := "(III)I" } : Jvm.MethodName) ({ cls := "GameCalculatorModel", name := "setNumber", desc := "(III)I" } : Jvm.MethodName)) ∈ lw_all := lw_g (lw_at lw_m11 96 rfl) rfl
theorem q2628 : (Jvm.Cond.code ({ cls := "GameCalculatorModel", name := "setNumber", desc := "(III)I" } : Jvm.MethodName) prog_18_method_47_code (4 : Nat) (Option.some Jvm.ClassFile.FieldType.int)) ∈ lw_all := lw_g (lw_at lw_m11 97 rfl) rfl
theorem q2629 : (Jvm.Cond.methodLink "GameCalculatorModel" (290 : Nat) ({ cls := "GameCalculatorModel", name := "isSlot", desc := "(I)Z" } : Jvm.MethodName)) ∈ lw_all := lw_g (lw_at lw_m11 98 rfl) rfl
theorem q2630 : (Jvm.Cond.static ({ cls := "GameCalculatorModel", name := "isSlot", desc := "(I)Z" } : Jvm.MethodName)) ∈ lw_all := lw_g (lw_at lw_m11 99 rfl) rfl
theorem q2631 : (Jvm.Cond.code ({ cls := "GameCalculatorModel", name := "isSlot", desc := "(I)Z" } : Jvm.MethodName) prog_18_method_4_code (1 : Nat) (Option.some Jvm.ClassFile.FieldType.boolean)) ∈ lw_all := lw_g (lw_at lw_m11 100 rfl) rfl
theorem q2632 : (Jvm.Cond.methodLink "GameCalculatorModel" (153 : Nat) ({ cls := "GameCalculatorModel", name := "in", desc := "(III)Z" } : Jvm.MethodName)) ∈ lw_all := lw_g (lw_at lw_m11 101 rfl) rfl
theorem q2633 : (Jvm.Cond.static ({ cls := "GameCalculatorModel", name := "in", desc := "(III)Z" } : Jvm.MethodName)) ∈ lw_all := lw_g (lw_at lw_m11 102 rfl) rfl
theorem q2634 : (Jvm.Cond.code ({ cls := "GameCalculatorModel", name := "in", desc := "(III)Z" } : Jvm.MethodName) prog_18_method_3_code (3 : Nat) (Option.some Jvm.ClassFile.FieldType.boolean)) ∈ lw_all := lw_g (lw_at lw_m11 103 rfl) rfl
theorem q2635 : (Jvm.Cond.constant "GameCalculatorModel" (293 : Nat) (-2000000001 : Int32)) ∈ lw_all := lw_g (lw_at lw_m11 104 rfl) rfl
theorem q2636 : (Jvm.Cond.methodLink "GameCalculatorModel" (294 : Nat) ({ cls := "GameCalculatorModel", name := "layNumber", desc := "(J)Z" } : Jvm.MethodName)) ∈ lw_all := lw_g (lw_at lw_m11 105 rfl) rfl
theorem q2637 : (Jvm.Cond.privateMethod ({ cls := "GameCalculatorModel", name := "layNumber", desc := "(J)Z" } : Jvm.MethodName)) ∈ lw_tbl := lw_at lw_m11 106 rfl
theorem q2638 : (Jvm.Cond.instanceMethod ({ cls := "GameCalculatorModel", name := "layNumber", desc := "(J)Z" } : Jvm.MethodName)) ∈ lw_all := lw_g (lw_at lw_m11 107 rfl) rfl
theorem q2639 : (Jvm.Cond.code ({ cls := "GameCalculatorModel", name := "layNumber", desc := "(J)Z" } : Jvm.MethodName) prog_18_method_28_code (12 : Nat) (Option.some Jvm.ClassFile.FieldType.boolean)) ∈ lw_all := lw_g (lw_at lw_m11 108 rfl) rfl
theorem q2640 : (Jvm.Cond.constantLong "GameCalculatorModel" (235 : Nat) (1099511627776 : Int64)) ∈ lw_all := lw_g (lw_at lw_m11 109 rfl) rfl
theorem q2641 : (Jvm.Cond.constantLong "GameCalculatorModel" (237 : Nat) (2 : Int64)) ∈ lw_all := lw_g (lw_at lw_m11 110 rfl) rfl
theorem q2642 : (Jvm.Cond.constant "GameCalculatorModel" (298 : Nat) (-2000000004 : Int32)) ∈ lw_all := lw_g (lw_at lw_m11 111 rfl) rfl
theorem q2643 : (Jvm.Cond.methodLink "GameCalculatorModel" (299 : Nat) ({ cls := "GameCalculatorModel", name := "putResult", desc := "(I)V" } : Jvm.MethodName)) ∈ lw_all := lw_g (lw_at lw_m11 112 rfl) rfl
theorem q2644 : (Jvm.Cond.privateMethod ({ cls := "GameCalculatorModel", name := "putResult", desc := "(I)V" } : Jvm.MethodName)) ∈ lw_tbl := lw_at lw_m11 113 rfl
theorem q2645 : (Jvm.Cond.instanceMethod ({ cls := "GameCalculatorModel", name := "putResult", desc := "(I)V" } : Jvm.MethodName)) ∈ lw_all := lw_g (lw_at lw_m11 114 rfl) rfl
theorem q2646 : (Jvm.Cond.code ({ cls := "GameCalculatorModel", name := "putResult", desc := "(I)V" } : Jvm.MethodName) prog_18_method_27_code (2 : Nat) (Option.none : Option Jvm.ClassFile.FieldType)) ∈ lw_all := lw_g (lw_at lw_m11 115 rfl) rfl
theorem q2647 : (Jvm.Cond.methodLink "GameCalculatorModel" (228 : Nat) ({ cls := "GameCalculatorModel", name := "keep", desc := "()V" } : Jvm.MethodName)) ∈ lw_all := lw_g (lw_at lw_m11 116 rfl) rfl
theorem q2648 : (Jvm.Cond.privateMethod ({ cls := "GameCalculatorModel", name := "keep", desc := "()V" } : Jvm.MethodName)) ∈ lw_tbl := lw_at lw_m11 117 rfl
theorem q2649 : (Jvm.Cond.instanceMethod ({ cls := "GameCalculatorModel", name := "keep", desc := "()V" } : Jvm.MethodName)) ∈ lw_all := lw_g (lw_at lw_m11 118 rfl) rfl
theorem q2650 : (Jvm.Cond.code ({ cls := "GameCalculatorModel", name := "keep", desc := "()V" } : Jvm.MethodName) prog_18_method_7_code (2 : Nat) (Option.none : Option Jvm.ClassFile.FieldType)) ∈ lw_all := lw_g (lw_at lw_m11 119 rfl) rfl
theorem q2652 : (Jvm.Cond.instanceMethod ({ cls := "GameCalculatorModel", name := "setNimber", desc := "(II)I" } : Jvm.MethodName)) ∈ lw_all := lw_g (lw_at lw_m11 121 rfl) rfl
theorem q2653 : (Jvm.Cond.selects "GameCalculatorModel" ({ cls := "GameCalculatorModel", name := "setNimber", desc := "(II)I" } : Jvm.MethodName) ({ cls := "GameCalculatorModel", name := "setNimber", desc := "(II)I" } : Jvm.MethodName)) ∈ lw_all := lw_g (lw_at lw_m11 122 rfl) rfl
theorem q2654 : (Jvm.Cond.code ({ cls := "GameCalculatorModel", name := "setNimber", desc := "(II)I" } : Jvm.MethodName) prog_18_method_48_code (3 : Nat) (Option.some Jvm.ClassFile.FieldType.int)) ∈ lw_all := lw_g (lw_at lw_m11 123 rfl) rfl
theorem q2656 : (Jvm.Cond.instanceMethod ({ cls := "GameCalculatorModel", name := "setUp", desc := "(III)I" } : Jvm.MethodName)) ∈ lw_all := lw_g (lw_at lw_m11 125 rfl) rfl
theorem q2657 : (Jvm.Cond.selects "GameCalculatorModel" ({ cls := "GameCalculatorModel", name := "setUp", desc := "(III)I" } : Jvm.MethodName) ({ cls := "GameCalculatorModel", name := "setUp", desc := "(III)I" } : Jvm.MethodName)) ∈ lw_all := lw_g (lw_at lw_m11 126 rfl) rfl
theorem q2658 : (Jvm.Cond.code ({ cls := "GameCalculatorModel", name := "setUp", desc := "(III)I" } : Jvm.MethodName) prog_18_method_49_code (4 : Nat) (Option.some Jvm.ClassFile.FieldType.int)) ∈ lw_all := lw_g (lw_at lw_m11 127 rfl) rfl
theorem q2660 : (Jvm.Cond.instanceMethod ({ cls := "GameCalculatorModel", name := "draft", desc := "(II)I" } : Jvm.MethodName)) ∈ lw_all := lw_g (lw_at lw_m11 129 rfl) rfl
theorem q2661 : (Jvm.Cond.selects "GameCalculatorModel" ({ cls := "GameCalculatorModel", name := "draft", desc := "(II)I" } : Jvm.MethodName) ({ cls := "GameCalculatorModel", name := "draft", desc := "(II)I" } : Jvm.MethodName)) ∈ lw_all := lw_g (lw_at lw_m11 130 rfl) rfl
theorem q2662 : (Jvm.Cond.code ({ cls := "GameCalculatorModel", name := "draft", desc := "(II)I" } : Jvm.MethodName) prog_18_method_51_code (4 : Nat) (Option.some Jvm.ClassFile.FieldType.int)) ∈ lw_all := lw_g (lw_at lw_m11 131 rfl) rfl
theorem q2663 : (Jvm.Cond.methodLink "GameCalculatorModel" (302 : Nat) ({ cls := "GameCalculatorModel", name := "draftAt", desc := "(II)I" } : Jvm.MethodName)) ∈ lw_all := lw_g (lw_at lw_m11 132 rfl) rfl
theorem q2664 : (Jvm.Cond.static ({ cls := "GameCalculatorModel", name := "draftAt", desc := "(II)I" } : Jvm.MethodName)) ∈ lw_all := lw_g (lw_at lw_m11 133 rfl) rfl
theorem q2665 : (Jvm.Cond.code ({ cls := "GameCalculatorModel", name := "draftAt", desc := "(II)I" } : Jvm.MethodName) prog_18_method_50_code (2 : Nat) (Option.some Jvm.ClassFile.FieldType.int)) ∈ lw_all := lw_g (lw_at lw_m11 134 rfl) rfl
theorem q2666 : (Jvm.Cond.methodLink "GameCalculatorModel" (305 : Nat) ({ cls := "GameCalculatorModel", name := "areSame", desc := "([II[II)Z" } : Jvm.MethodName)) ∈ lw_all := lw_g (lw_at lw_m11 135 rfl) rfl
theorem q2667 : (Jvm.Cond.static ({ cls := "GameCalculatorModel", name := "areSame", desc := "([II[II)Z" } : Jvm.MethodName)) ∈ lw_all := lw_g (lw_at lw_m11 136 rfl) rfl
theorem q2668 : (Jvm.Cond.code ({ cls := "GameCalculatorModel", name := "areSame", desc := "([II[II)Z" } : Jvm.MethodName) prog_18_method_6_code (6 : Nat) (Option.some Jvm.ClassFile.FieldType.boolean)) ∈ lw_all := lw_g (lw_at lw_m11 137 rfl) rfl
theorem q2669 : (Jvm.Cond.constant "GameCalculatorModel" (309 : Nat) (-2000000003 : Int32)) ∈ lw_all := lw_g (lw_at lw_m11 138 rfl) rfl
theorem q2671 : (Jvm.Cond.instanceMethod ({ cls := "GameCalculatorModel", name := "clearDraft", desc := "()I" } : Jvm.MethodName)) ∈ lw_all := lw_g (lw_at lw_m11 140 rfl) rfl
theorem q2672 : (Jvm.Cond.selects "GameCalculatorModel" ({ cls := "GameCalculatorModel", name := "clearDraft", desc := "()I" } : Jvm.MethodName) ({ cls := "GameCalculatorModel", name := "clearDraft", desc := "()I" } : Jvm.MethodName)) ∈ lw_all := lw_g (lw_at lw_m11 141 rfl) rfl
theorem q2673 : (Jvm.Cond.code ({ cls := "GameCalculatorModel", name := "clearDraft", desc := "()I" } : Jvm.MethodName) prog_18_method_52_code (2 : Nat) (Option.some Jvm.ClassFile.FieldType.int)) ∈ lw_all := lw_g (lw_at lw_m11 142 rfl) rfl
theorem q2675 : (Jvm.Cond.instanceMethod ({ cls := "GameCalculatorModel", name := "examineDraft", desc := "(I)I" } : Jvm.MethodName)) ∈ lw_all := lw_g (lw_at lw_m11 144 rfl) rfl
theorem q2676 : (Jvm.Cond.selects "GameCalculatorModel" ({ cls := "GameCalculatorModel", name := "examineDraft", desc := "(I)I" } : Jvm.MethodName) ({ cls := "GameCalculatorModel", name := "examineDraft", desc := "(I)I" } : Jvm.MethodName)) ∈ lw_all := lw_g (lw_at lw_m11 145 rfl) rfl
theorem q2677 : (Jvm.Cond.code ({ cls := "GameCalculatorModel", name := "examineDraft", desc := "(I)I" } : Jvm.MethodName) prog_18_method_55_code (6 : Nat) (Option.some Jvm.ClassFile.FieldType.int)) ∈ lw_all := lw_g (lw_at lw_m11 146 rfl) rfl
theorem q2678 : (Jvm.Cond.methodLink "GameCalculatorModel" (310 : Nat) ({ cls := "GameCalculatorModel", name := "loadDraft", desc := "()V" } : Jvm.MethodName)) ∈ lw_all := lw_g (lw_at lw_m11 147 rfl) rfl
theorem q2679 : (Jvm.Cond.privateMethod ({ cls := "GameCalculatorModel", name := "loadDraft", desc := "()V" } : Jvm.MethodName)) ∈ lw_tbl := lw_at lw_m11 148 rfl
theorem q2680 : (Jvm.Cond.instanceMethod ({ cls := "GameCalculatorModel", name := "loadDraft", desc := "()V" } : Jvm.MethodName)) ∈ lw_all := lw_g (lw_at lw_m11 149 rfl) rfl
theorem q2681 : (Jvm.Cond.code ({ cls := "GameCalculatorModel", name := "loadDraft", desc := "()V" } : Jvm.MethodName) prog_18_method_53_code (2 : Nat) (Option.none : Option Jvm.ClassFile.FieldType)) ∈ lw_all := lw_g (lw_at lw_m11 150 rfl) rfl
theorem q2682 : (Jvm.Cond.methodLink "GameCalculatorModel" (273 : Nat) ({ cls := "GameCalculatorModel", name := "load", desc := "([IIZ)I" } : Jvm.MethodName)) ∈ lw_all := lw_g (lw_at lw_m11 151 rfl) rfl
theorem q2683 : (Jvm.Cond.privateMethod ({ cls := "GameCalculatorModel", name := "load", desc := "([IIZ)I" } : Jvm.MethodName)) ∈ lw_tbl := lw_at lw_m11 152 rfl
theorem q2684 : (Jvm.Cond.instanceMethod ({ cls := "GameCalculatorModel", name := "load", desc := "([IIZ)I" } : Jvm.MethodName)) ∈ lw_all := lw_g (lw_at lw_m11 153 rfl) rfl
theorem q2685 : (Jvm.Cond.code ({ cls := "GameCalculatorModel", name := "load", desc := "([IIZ)I" } : Jvm.MethodName) prog_18_method_21_code (9 : Nat) (Option.some Jvm.ClassFile.FieldType.int)) ∈ lw_all := lw_g (lw_at lw_m11 154 rfl) rfl
theorem q2686 : (Jvm.Cond.methodLink "GameCalculatorModel" (313 : Nat) ({ cls := "GameCalculatorModel", name := "isBeaten", desc := "(IZ)Z" } : Jvm.MethodName)) ∈ lw_all := lw_g (lw_at lw_m11 155 rfl) rfl
theorem q2687 : (Jvm.Cond.privateMethod ({ cls := "GameCalculatorModel", name := "isBeaten", desc := "(IZ)Z" } : Jvm.MethodName)) ∈ lw_tbl := lw_at lw_m11 156 rfl
theorem q2688 : (Jvm.Cond.instanceMethod ({ cls := "GameCalculatorModel", name := "isBeaten", desc := "(IZ)Z" } : Jvm.MethodName)) ∈ lw_all := lw_g (lw_at lw_m11 157 rfl) rfl
theorem q2689 : (Jvm.Cond.code ({ cls := "GameCalculatorModel", name := "isBeaten", desc := "(IZ)Z" } : Jvm.MethodName) prog_18_method_54_code (5 : Nat) (Option.some Jvm.ClassFile.FieldType.boolean)) ∈ lw_all := lw_g (lw_at lw_m11 158 rfl) rfl
theorem q2691 : (Jvm.Cond.instanceMethod ({ cls := "GameCalculatorModel", name := "makeGame", desc := "(I)I" } : Jvm.MethodName)) ∈ lw_all := lw_g (lw_at lw_m11 160 rfl) rfl
theorem q2692 : (Jvm.Cond.selects "GameCalculatorModel" ({ cls := "GameCalculatorModel", name := "makeGame", desc := "(I)I" } : Jvm.MethodName) ({ cls := "GameCalculatorModel", name := "makeGame", desc := "(I)I" } : Jvm.MethodName)) ∈ lw_all := lw_g (lw_at lw_m11 161 rfl) rfl
theorem q2693 : (Jvm.Cond.code ({ cls := "GameCalculatorModel", name := "makeGame", desc := "(I)I" } : Jvm.MethodName) prog_18_method_56_code (2 : Nat) (Option.some Jvm.ClassFile.FieldType.int)) ∈ lw_all := lw_g (lw_at lw_m11 162 rfl) rfl
theorem q2695 : (Jvm.Cond.instanceMethod ({ cls := "GameCalculatorModel", name := "takeOption", desc := "(IIII)I" } : Jvm.MethodName)) ∈ lw_all := lw_g (lw_at lw_m11 164 rfl) rfl
theorem q2696 : (Jvm.Cond.selects "GameCalculatorModel" ({ cls := "GameCalculatorModel", name := "takeOption", desc := "(IIII)I" } : Jvm.MethodName) ({ cls := "GameCalculatorModel", name := "takeOption", desc := "(IIII)I" } : Jvm.MethodName)) ∈ lw_all := lw_g (lw_at lw_m11 165 rfl) rfl
theorem q2697 : (Jvm.Cond.code ({ cls := "GameCalculatorModel", name := "takeOption", desc := "(IIII)I" } : Jvm.MethodName) prog_18_method_60_code (7 : Nat) (Option.some Jvm.ClassFile.FieldType.int)) ∈ lw_all := lw_g (lw_at lw_m11 166 rfl) rfl
theorem q2698 : (Jvm.Cond.methodLink "GameCalculatorModel" (316 : Nat) ({ cls := "GameCalculatorModel", name := "optionsOf", desc := "(II)I" } : Jvm.MethodName)) ∈ lw_all := lw_g (lw_at lw_m11 167 rfl) rfl
theorem q2699 : (Jvm.Cond.privateMethod ({ cls := "GameCalculatorModel", name := "optionsOf", desc := "(II)I" } : Jvm.MethodName)) ∈ lw_tbl := lw_at lw_m11 168 rfl
theorem q2700 : (Jvm.Cond.instanceMethod ({ cls := "GameCalculatorModel", name := "optionsOf", desc := "(II)I" } : Jvm.MethodName)) ∈ lw_all := lw_g (lw_at lw_m11 169 rfl) rfl
theorem q2701 : (Jvm.Cond.code ({ cls := "GameCalculatorModel", name := "optionsOf", desc := "(II)I" } : Jvm.MethodName) prog_18_method_57_code (4 : Nat) (Option.some Jvm.ClassFile.FieldType.int)) ∈ lw_all := lw_g (lw_at lw_m11 170 rfl) rfl
theorem q2702 : (Jvm.Cond.methodLink "GameCalculatorModel" (319 : Nat) ({ cls := "GameCalculatorModel", name := "option", desc := "(II)I" } : Jvm.MethodName)) ∈ lw_all := lw_g (lw_at lw_m11 171 rfl) rfl
theorem q2703 : (Jvm.Cond.static ({ cls := "GameCalculatorModel", name := "option", desc := "(II)I" } : Jvm.MethodName)) ∈ lw_all := lw_g (lw_at lw_m11 172 rfl) rfl
theorem q2704 : (Jvm.Cond.code ({ cls := "GameCalculatorModel", name := "option", desc := "(II)I" } : Jvm.MethodName) prog_18_method_59_code (4 : Nat) (Option.some Jvm.ClassFile.FieldType.int)) ∈ lw_all := lw_g (lw_at lw_m11 173 rfl) rfl
theorem q2706 : (Jvm.Cond.instanceMethod ({ cls := "GameCalculatorModel", name := "dominoes", desc := "(II)I" } : Jvm.MethodName)) ∈ lw_all := lw_g (lw_at lw_m11 175 rfl) rfl
theorem q2707 : (Jvm.Cond.selects "GameCalculatorModel" ({ cls := "GameCalculatorModel", name := "dominoes", desc := "(II)I" } : Jvm.MethodName) ({ cls := "GameCalculatorModel", name := "dominoes", desc := "(II)I" } : Jvm.MethodName)) ∈ lw_all := lw_g (lw_at lw_m11 176 rfl) rfl
theorem q2708 : (Jvm.Cond.code ({ cls := "GameCalculatorModel", name := "dominoes", desc := "(II)I" } : Jvm.MethodName) prog_18_method_61_code (8 : Nat) (Option.some Jvm.ClassFile.FieldType.int)) ∈ lw_all := lw_g (lw_at lw_m11 177 rfl) rfl
theorem q2710 : (Jvm.Cond.instanceMethod ({ cls := "GameCalculatorModel", name := "negate", desc := "(II)I" } : Jvm.MethodName)) ∈ lw_all := lw_g (lw_at lw_m11 179 rfl) rfl
theorem q2711 : (Jvm.Cond.selects "GameCalculatorModel" ({ cls := "GameCalculatorModel", name := "negate", desc := "(II)I" } : Jvm.MethodName) ({ cls := "GameCalculatorModel", name := "negate", desc := "(II)I" } : Jvm.MethodName)) ∈ lw_all := lw_g (lw_at lw_m11 180 rfl) rfl
theorem q2712 : (Jvm.Cond.code ({ cls := "GameCalculatorModel", name := "negate", desc := "(II)I" } : Jvm.MethodName) prog_18_method_62_code (3 : Nat) (Option.some Jvm.ClassFile.FieldType.int)) ∈ lw_all := lw_g (lw_at lw_m11 181 rfl) rfl
theorem q2713 : (Jvm.Cond.methodLink "GameCalculatorModel" (322 : Nat) ({ cls := "GameCalculatorModel", name := "turnSecond", desc := "()V" } : Jvm.MethodName)) ∈ lw_all := lw_g (lw_at lw_m11 182 rfl) rfl
theorem q2714 : (Jvm.Cond.privateMethod ({ cls := "GameCalculatorModel", name := "turnSecond", desc := "()V" } : Jvm.MethodName)) ∈ lw_tbl := lw_at lw_m11 183 rfl
theorem q2715 : (Jvm.Cond.instanceMethod ({ cls := "GameCalculatorModel", name := "turnSecond", desc := "()V" } : Jvm.MethodName)) ∈ lw_all := lw_g (lw_at lw_m11 184 rfl) rfl
theorem q2716 : (Jvm.Cond.code ({ cls := "GameCalculatorModel", name := "turnSecond", desc := "()V" } : Jvm.MethodName) prog_18_method_41_code (3 : Nat) (Option.none : Option Jvm.ClassFile.FieldType)) ∈ lw_all := lw_g (lw_at lw_m11 185 rfl) rfl
theorem q2718 : (Jvm.Cond.instanceMethod ({ cls := "GameCalculatorModel", name := "add", desc := "(III)I" } : Jvm.MethodName)) ∈ lw_all := lw_g (lw_at lw_m11 187 rfl) rfl
theorem q2719 : (Jvm.Cond.selects "GameCalculatorModel" ({ cls := "GameCalculatorModel", name := "add", desc := "(III)I" } : Jvm.MethodName) ({ cls := "GameCalculatorModel", name := "add", desc := "(III)I" } : Jvm.MethodName)) ∈ lw_all := lw_g (lw_at lw_m11 188 rfl) rfl
theorem q2720 : (Jvm.Cond.code ({ cls := "GameCalculatorModel", name := "add", desc := "(III)I" } : Jvm.MethodName) prog_18_method_65_code (4 : Nat) (Option.some Jvm.ClassFile.FieldType.int)) ∈ lw_all := lw_g (lw_at lw_m11 189 rfl) rfl
theorem q2721 : (Jvm.Cond.methodLink "GameCalculatorModel" (325 : Nat) ({ cls := "GameCalculatorModel", name := "areSlots", desc := "(III)Z" } : Jvm.MethodName)) ∈ lw_all := lw_g (lw_at lw_m11 190 rfl) rfl
theorem q2722 : (Jvm.Cond.static ({ cls := "GameCalculatorModel", name := "areSlots", desc := "(III)Z" } : Jvm.MethodName)) ∈ lw_all := lw_g (lw_at lw_m11 191 rfl) rfl
theorem q2723 : (Jvm.Cond.code ({ cls := "GameCalculatorModel", name := "areSlots", desc := "(III)Z" } : Jvm.MethodName) prog_18_method_63_code (3 : Nat) (Option.some Jvm.ClassFile.FieldType.boolean)) ∈ lw_all := lw_g (lw_at lw_m11 192 rfl) rfl
theorem q2724 : (Jvm.Cond.methodLink "GameCalculatorModel" (328 : Nat) ({ cls := "GameCalculatorModel", name := "takeOperands", desc := "(II)V" } : Jvm.MethodName)) ∈ lw_all := lw_g (lw_at lw_m11 193 rfl) rfl
theorem q2725 : (Jvm.Cond.privateMethod ({ cls := "GameCalculatorModel", name := "takeOperands", desc := "(II)V" } : Jvm.MethodName)) ∈ lw_tbl := lw_at lw_m11 194 rfl
theorem q2726 : (Jvm.Cond.instanceMethod ({ cls := "GameCalculatorModel", name := "takeOperands", desc := "(II)V" } : Jvm.MethodName)) ∈ lw_all := lw_g (lw_at lw_m11 195 rfl) rfl
theorem q2727 : (Jvm.Cond.code ({ cls := "GameCalculatorModel", name := "takeOperands", desc := "(II)V" } : Jvm.MethodName) prog_18_method_64_code (3 : Nat) (Option.none : Option Jvm.ClassFile.FieldType)) ∈ lw_all := lw_g (lw_at lw_m11 196 rfl) rfl
theorem q2728 : (Jvm.Cond.methodLink "GameCalculatorModel" (332 : Nat) ({ cls := "GameCalculatorModel", name := "isProduct", desc := "()Z" } : Jvm.MethodName)) ∈ lw_all := lw_g (lw_at lw_m11 197 rfl) rfl
theorem q2729 : (Jvm.Cond.privateMethod ({ cls := "GameCalculatorModel", name := "isProduct", desc := "()Z" } : Jvm.MethodName)) ∈ lw_tbl := lw_at lw_m11 198 rfl
theorem q2730 : (Jvm.Cond.instanceMethod ({ cls := "GameCalculatorModel", name := "isProduct", desc := "()Z" } : Jvm.MethodName)) ∈ lw_all := lw_g (lw_at lw_m11 199 rfl) rfl
theorem q2731 : (Jvm.Cond.code ({ cls := "GameCalculatorModel", name := "isProduct", desc := "()Z" } : Jvm.MethodName) prog_18_method_40_code (1 : Nat) (Option.some Jvm.ClassFile.FieldType.boolean)) ∈ lw_all := lw_g (lw_at lw_m11 200 rfl) rfl
theorem q2733 : (Jvm.Cond.instanceMethod ({ cls := "GameCalculatorModel", name := "subtract", desc := "(III)I" } : Jvm.MethodName)) ∈ lw_all := lw_g (lw_at lw_m11 202 rfl) rfl
theorem q2734 : (Jvm.Cond.selects "GameCalculatorModel" ({ cls := "GameCalculatorModel", name := "subtract", desc := "(III)I" } : Jvm.MethodName) ({ cls := "GameCalculatorModel", name := "subtract", desc := "(III)I" } : Jvm.MethodName)) ∈ lw_all := lw_g (lw_at lw_m11 203 rfl) rfl
theorem q2735 : (Jvm.Cond.code ({ cls := "GameCalculatorModel", name := "subtract", desc := "(III)I" } : Jvm.MethodName) prog_18_method_66_code (4 : Nat) (Option.some Jvm.ClassFile.FieldType.int)) ∈ lw_all := lw_g (lw_at lw_m11 204 rfl) rfl
theorem q2737 : (Jvm.Cond.instanceMethod ({ cls := "GameCalculatorModel", name := "ordinalSum", desc := "(III)I" } : Jvm.MethodName)) ∈ lw_all := lw_g (lw_at lw_m11 206 rfl) rfl
theorem q2738 : (Jvm.Cond.selects "GameCalculatorModel" ({ cls := "GameCalculatorModel", name := "ordinalSum", desc := "(III)I" } : Jvm.MethodName) ({ cls := "GameCalculatorModel", name := "ordinalSum", desc := "(III)I" } : Jvm.MethodName)) ∈ lw_all := lw_g (lw_at lw_m11 207 rfl) rfl
theorem q2739 : (Jvm.Cond.code ({ cls := "GameCalculatorModel", name := "ordinalSum", desc := "(III)I" } : Jvm.MethodName) prog_18_method_67_code (4 : Nat) (Option.some Jvm.ClassFile.FieldType.int)) ∈ lw_all := lw_g (lw_at lw_m11 208 rfl) rfl
theorem q2740 : (Jvm.Cond.methodLink "GameCalculatorModel" (335 : Nat) ({ cls := "GameCalculatorModel", name := "ordinal", desc := "()Z" } : Jvm.MethodName)) ∈ lw_all := lw_g (lw_at lw_m11 209 rfl) rfl
theorem q2741 : (Jvm.Cond.privateMethod ({ cls := "GameCalculatorModel", name := "ordinal", desc := "()Z" } : Jvm.MethodName)) ∈ lw_tbl := lw_at lw_m11 210 rfl
theorem q2742 : (Jvm.Cond.instanceMethod ({ cls := "GameCalculatorModel", name := "ordinal", desc := "()Z" } : Jvm.MethodName)) ∈ lw_all := lw_g (lw_at lw_m11 211 rfl) rfl
theorem q2743 : (Jvm.Cond.code ({ cls := "GameCalculatorModel", name := "ordinal", desc := "()Z" } : Jvm.MethodName) prog_18_method_42_code (6 : Nat) (Option.some Jvm.ClassFile.FieldType.boolean)) ∈ lw_all := lw_g (lw_at lw_m11 212 rfl) rfl
theorem q2745 : (Jvm.Cond.instanceMethod ({ cls := "GameCalculatorModel", name := "multiply", desc := "(III)I" } : Jvm.MethodName)) ∈ lw_all := lw_g (lw_at lw_m11 214 rfl) rfl
theorem q2746 : (Jvm.Cond.selects "GameCalculatorModel" ({ cls := "GameCalculatorModel", name := "multiply", desc := "(III)I" } : Jvm.MethodName) ({ cls := "GameCalculatorModel", name := "multiply", desc := "(III)I" } : Jvm.MethodName)) ∈ lw_all := lw_g (lw_at lw_m11 215 rfl) rfl
theorem q2747 : (Jvm.Cond.code ({ cls := "GameCalculatorModel", name := "multiply", desc := "(III)I" } : Jvm.MethodName) prog_18_method_69_code (11 : Nat) (Option.some Jvm.ClassFile.FieldType.int)) ∈ lw_all := lw_g (lw_at lw_m11 216 rfl) rfl
theorem q2748 : (Jvm.Cond.methodLink "GameCalculatorModel" (338 : Nat) ({ cls := "GameCalculatorModel", name := "isNumber", desc := "(I)Z" } : Jvm.MethodName)) ∈ lw_all := lw_g (lw_at lw_m11 217 rfl) rfl
theorem q2749 : (Jvm.Cond.privateMethod ({ cls := "GameCalculatorModel", name := "isNumber", desc := "(I)Z" } : Jvm.MethodName)) ∈ lw_tbl := lw_at lw_m11 218 rfl
theorem q2750 : (Jvm.Cond.instanceMethod ({ cls := "GameCalculatorModel", name := "isNumber", desc := "(I)Z" } : Jvm.MethodName)) ∈ lw_all := lw_g (lw_at lw_m11 219 rfl) rfl
theorem q2751 : (Jvm.Cond.code ({ cls := "GameCalculatorModel", name := "isNumber", desc := "(I)Z" } : Jvm.MethodName) prog_18_method_36_code (2 : Nat) (Option.some Jvm.ClassFile.FieldType.boolean)) ∈ lw_all := lw_g (lw_at lw_m11 220 rfl) rfl
theorem q2752 : (Jvm.Cond.methodLink "GameCalculatorModel" (252 : Nat) ({ cls := "GameCalculatorModel", name := "findValues", desc := "([II)Z" } : Jvm.MethodName)) ∈ lw_all := lw_g (lw_at lw_m11 221 rfl) rfl
theorem q2753 : (Jvm.Cond.privateMethod ({ cls := "GameCalculatorModel", name := "findValues", desc := "([II)Z" } : Jvm.MethodName)) ∈ lw_tbl := lw_at lw_m11 222 rfl
theorem q2754 : (Jvm.Cond.instanceMethod ({ cls := "GameCalculatorModel", name := "findValues", desc := "([II)Z" } : Jvm.MethodName)) ∈ lw_all := lw_g (lw_at lw_m11 223 rfl) rfl
theorem q2755 : (Jvm.Cond.code ({ cls := "GameCalculatorModel", name := "findValues", desc := "([II)Z" } : Jvm.MethodName) prog_18_method_31_code (7 : Nat) (Option.some Jvm.ClassFile.FieldType.boolean)) ∈ lw_all := lw_g (lw_at lw_m11 224 rfl) rfl
theorem q2756 : (Jvm.Cond.methodLink "GameCalculatorModel" (239 : Nat) ({ cls := "GameCalculatorModel", name := "isSingle", desc := "(I)Z" } : Jvm.MethodName)) ∈ lw_all := lw_g (lw_at lw_m11 225 rfl) rfl
theorem q2757 : (Jvm.Cond.static ({ cls := "GameCalculatorModel", name := "isSingle", desc := "(I)Z" } : Jvm.MethodName)) ∈ lw_all := lw_g (lw_at lw_m11 226 rfl) rfl
theorem q2758 : (Jvm.Cond.code ({ cls := "GameCalculatorModel", name := "isSingle", desc := "(I)Z" } : Jvm.MethodName) prog_18_method_30_code (1 : Nat) (Option.some Jvm.ClassFile.FieldType.boolean)) ∈ lw_all := lw_g (lw_at lw_m11 227 rfl) rfl
theorem q2759 : (Jvm.Cond.methodLink "GameCalculatorModel" (242 : Nat) ({ cls := "GameCalculatorModel", name := "one", desc := "(I)I" } : Jvm.MethodName)) ∈ lw_all := lw_g (lw_at lw_m11 228 rfl) rfl
theorem q2760 : (Jvm.Cond.static ({ cls := "GameCalculatorModel", name := "one", desc := "(I)I" } : Jvm.MethodName)) ∈ lw_all := lw_g (lw_at lw_m11 229 rfl) rfl
theorem q2761 : (Jvm.Cond.code ({ cls := "GameCalculatorModel", name := "one", desc := "(I)I" } : Jvm.MethodName) prog_18_method_29_code (2 : Nat) (Option.some Jvm.ClassFile.FieldType.int)) ∈ lw_all := lw_g (lw_at lw_m11 230 rfl) rfl
theorem q2762 : (Jvm.Cond.constant "GameCalculatorModel" (341 : Nat) (-2000000002 : Int32)) ∈ lw_all := lw_g (lw_at lw_m11 231 rfl) rfl
theorem q2763 : (Jvm.Cond.methodLink "GameCalculatorModel" (342 : Nat) ({ cls := "GameCalculatorModel", name := "valueOf", desc := "(I)J" } : Jvm.MethodName)) ∈ lw_all := lw_g (lw_at lw_m11 232 rfl) rfl
theorem q2764 : (Jvm.Cond.privateMethod ({ cls := "GameCalculatorModel", name := "valueOf", desc := "(I)J" } : Jvm.MethodName)) ∈ lw_tbl := lw_at lw_m11 233 rfl
theorem q2765 : (Jvm.Cond.instanceMethod ({ cls := "GameCalculatorModel", name := "valueOf", desc := "(I)J" } : Jvm.MethodName)) ∈ lw_all := lw_g (lw_at lw_m11 234 rfl) rfl
theorem q2766 : (Jvm.Cond.code ({ cls := "GameCalculatorModel", name := "valueOf", desc := "(I)J" } : Jvm.MethodName) prog_18_method_35_code (2 : Nat) (Option.some Jvm.ClassFile.FieldType.long)) ∈ lw_all := lw_g (lw_at lw_m11 235 rfl) rfl
theorem q2767 : (Jvm.Cond.methodLink "GameCalculatorModel" (249 : Nat) ({ cls := "GameCalculatorModel", name := "exponentOf", desc := "(J)I" } : Jvm.MethodName)) ∈ lw_all := lw_g (lw_at lw_m11 236 rfl) rfl
theorem q2768 : (Jvm.Cond.static ({ cls := "GameCalculatorModel", name := "exponentOf", desc := "(J)I" } : Jvm.MethodName)) ∈ lw_all := lw_g (lw_at lw_m11 237 rfl) rfl
theorem q2769 : (Jvm.Cond.code ({ cls := "GameCalculatorModel", name := "exponentOf", desc := "(J)I" } : Jvm.MethodName) prog_18_method_33_code (5 : Nat) (Option.some Jvm.ClassFile.FieldType.int)) ∈ lw_all := lw_g (lw_at lw_m11 238 rfl) rfl
theorem q2770 : (Jvm.Cond.methodLink "GameCalculatorModel" (245 : Nat) ({ cls := "GameCalculatorModel", name := "numeratorOf", desc := "(J)I" } : Jvm.MethodName)) ∈ lw_all := lw_g (lw_at lw_m11 239 rfl) rfl
theorem q2771 : (Jvm.Cond.static ({ cls := "GameCalculatorModel", name := "numeratorOf", desc := "(J)I" } : Jvm.MethodName)) ∈ lw_all := lw_g (lw_at lw_m12 0 rfl) rfl
theorem q2772 : (Jvm.Cond.code ({ cls := "GameCalculatorModel", name := "numeratorOf", desc := "(J)I" } : Jvm.MethodName) prog_18_method_32_code (5 : Nat) (Option.some Jvm.ClassFile.FieldType.int)) ∈ lw_all := lw_g (lw_at lw_m12 1 rfl) rfl
theorem q2773 : (Jvm.Cond.constantLong "GameCalculatorModel" (346 : Nat) (4000000 : Int64)) ∈ lw_all := lw_g (lw_at lw_m12 2 rfl) rfl
theorem q2774 : (Jvm.Cond.constantLong "GameCalculatorModel" (348 : Nat) (-4000000 : Int64)) ∈ lw_all := lw_g (lw_at lw_m12 3 rfl) rfl
theorem q2775 : (Jvm.Cond.methodLink "GameCalculatorModel" (350 : Nat) ({ cls := "GameCalculatorModel", name := "putNumber", desc := "(JI)I" } : Jvm.MethodName)) ∈ lw_all := lw_g (lw_at lw_m12 4 rfl) rfl
theorem q2776 : (Jvm.Cond.privateMethod ({ cls := "GameCalculatorModel", name := "putNumber", desc := "(JI)I" } : Jvm.MethodName)) ∈ lw_tbl := lw_at lw_m12 5 rfl
theorem q2777 : (Jvm.Cond.instanceMethod ({ cls := "GameCalculatorModel", name := "putNumber", desc := "(JI)I" } : Jvm.MethodName)) ∈ lw_all := lw_g (lw_at lw_m12 6 rfl) rfl
theorem q2778 : (Jvm.Cond.code ({ cls := "GameCalculatorModel", name := "putNumber", desc := "(JI)I" } : Jvm.MethodName) prog_18_method_68_code (4 : Nat) (Option.some Jvm.ClassFile.FieldType.int)) ∈ lw_all := lw_g (lw_at lw_m12 7 rfl) rfl
theorem q2780 : (Jvm.Cond.instanceMethod ({ cls := "GameCalculatorModel", name := "reciprocal", desc := "(II)I" } : Jvm.MethodName)) ∈ lw_all := lw_g (lw_at lw_m12 9 rfl) rfl
theorem q2781 : (Jvm.Cond.selects "GameCalculatorModel" ({ cls := "GameCalculatorModel", name := "reciprocal", desc := "(II)I" } : Jvm.MethodName) ({ cls := "GameCalculatorModel", name := "reciprocal", desc := "(II)I" } : Jvm.MethodName)) ∈ lw_all := lw_g (lw_at lw_m12 10 rfl) rfl
theorem q2782 : (Jvm.Cond.code ({ cls := "GameCalculatorModel", name := "reciprocal", desc := "(II)I" } : Jvm.MethodName) prog_18_method_70_code (9 : Nat) (Option.some Jvm.ClassFile.FieldType.int)) ∈ lw_all := lw_g (lw_at lw_m12 11 rfl) rfl
theorem q2784 : (Jvm.Cond.instanceMethod ({ cls := "GameCalculatorModel", name := "simplest", desc := "(III)I" } : Jvm.MethodName)) ∈ lw_all := lw_g (lw_at lw_m12 13 rfl) rfl
theorem q2785 : (Jvm.Cond.selects "GameCalculatorModel" ({ cls := "GameCalculatorModel", name := "simplest", desc := "(III)I" } : Jvm.MethodName) ({ cls := "GameCalculatorModel", name := "simplest", desc := "(III)I" } : Jvm.MethodName)) ∈ lw_all := lw_g (lw_at lw_m12 14 rfl) rfl
theorem q2786 : (Jvm.Cond.code ({ cls := "GameCalculatorModel", name := "simplest", desc := "(III)I" } : Jvm.MethodName) prog_18_method_71_code (15 : Nat) (Option.some Jvm.ClassFile.FieldType.int)) ∈ lw_all := lw_g (lw_at lw_m12 15 rfl) rfl
theorem q2787 : (Jvm.Cond.constantLong "GameCalculatorModel" (354 : Nat) (-4611686018427387904 : Int64)) ∈ lw_all := lw_g (lw_at lw_m12 16 rfl) rfl
theorem q2788 : (Jvm.Cond.constantLong "GameCalculatorModel" (356 : Nat) (4611686018427387904 : Int64)) ∈ lw_all := lw_g (lw_at lw_m12 17 rfl) rfl
theorem q2790 : (Jvm.Cond.instanceMethod ({ cls := "GameCalculatorModel", name := "appendSign", desc := "(I)I" } : Jvm.MethodName)) ∈ lw_all := lw_g (lw_at lw_m12 19 rfl) rfl
theorem q2791 : (Jvm.Cond.selects "GameCalculatorModel" ({ cls := "GameCalculatorModel", name := "appendSign", desc := "(I)I" } : Jvm.MethodName) ({ cls := "GameCalculatorModel", name := "appendSign", desc := "(I)I" } : Jvm.MethodName)) ∈ lw_all := lw_g (lw_at lw_m12 20 rfl) rfl
theorem q2792 : (Jvm.Cond.code ({ cls := "GameCalculatorModel", name := "appendSign", desc := "(I)I" } : Jvm.MethodName) prog_18_method_72_code (2 : Nat) (Option.some Jvm.ClassFile.FieldType.int)) ∈ lw_all := lw_g (lw_at lw_m12 21 rfl) rfl
theorem q2794 : (Jvm.Cond.instanceMethod ({ cls := "GameCalculatorModel", name := "makeSigns", desc := "(I)I" } : Jvm.MethodName)) ∈ lw_all := lw_g (lw_at lw_m12 23 rfl) rfl
theorem q2795 : (Jvm.Cond.selects "GameCalculatorModel" ({ cls := "GameCalculatorModel", name := "makeSigns", desc := "(I)I" } : Jvm.MethodName) ({ cls := "GameCalculatorModel", name := "makeSigns", desc := "(I)I" } : Jvm.MethodName)) ∈ lw_all := lw_g (lw_at lw_m12 24 rfl) rfl
theorem q2796 : (Jvm.Cond.code ({ cls := "GameCalculatorModel", name := "makeSigns", desc := "(I)I" } : Jvm.MethodName) prog_18_method_73_code (5 : Nat) (Option.some Jvm.ClassFile.FieldType.int)) ∈ lw_all := lw_g (lw_at lw_m12 25 rfl) rfl
theorem q2798 : (Jvm.Cond.instanceMethod ({ cls := "GameCalculatorModel", name := "sign", desc := "(II)I" } : Jvm.MethodName)) ∈ lw_all := lw_g (lw_at lw_m12 27 rfl) rfl
theorem q2799 : (Jvm.Cond.selects "GameCalculatorModel" ({ cls := "GameCalculatorModel", name := "sign", desc := "(II)I" } : Jvm.MethodName) ({ cls := "GameCalculatorModel", name := "sign", desc := "(II)I" } : Jvm.MethodName)) ∈ lw_all := lw_g (lw_at lw_m12 28 rfl) rfl
theorem q2800 : (Jvm.Cond.code ({ cls := "GameCalculatorModel", name := "sign", desc := "(II)I" } : Jvm.MethodName) prog_18_method_74_code (4 : Nat) (Option.some Jvm.ClassFile.FieldType.int)) ∈ lw_all := lw_g (lw_at lw_m12 29 rfl) rfl
theorem q2802 : (Jvm.Cond.instanceMethod ({ cls := "GameCalculatorModel", name := "appendCharacter", desc := "(I)I" } : Jvm.MethodName)) ∈ lw_all := lw_g (lw_at lw_m12 31 rfl) rfl
theorem q2803 : (Jvm.Cond.selects "GameCalculatorModel" ({ cls := "GameCalculatorModel", name := "appendCharacter", desc := "(I)I" } : Jvm.MethodName) ({ cls := "GameCalculatorModel", name := "appendCharacter", desc := "(I)I" } : Jvm.MethodName)) ∈ lw_all := lw_g (lw_at lw_m12 32 rfl) rfl
theorem q2804 : (Jvm.Cond.code ({ cls := "GameCalculatorModel", name := "appendCharacter", desc := "(I)I" } : Jvm.MethodName) prog_18_method_75_code (2 : Nat) (Option.some Jvm.ClassFile.FieldType.int)) ∈ lw_all := lw_g (lw_at lw_m12 33 rfl) rfl
theorem q2806 : (Jvm.Cond.instanceMethod ({ cls := "GameCalculatorModel", name := "clearText", desc := "()I" } : Jvm.MethodName)) ∈ lw_all := lw_g (lw_at lw_m12 35 rfl) rfl
theorem q2807 : (Jvm.Cond.selects "GameCalculatorModel" ({ cls := "GameCalculatorModel", name := "clearText", desc := "()I" } : Jvm.MethodName) ({ cls := "GameCalculatorModel", name := "clearText", desc := "()I" } : Jvm.MethodName)) ∈ lw_all := lw_g (lw_at lw_m12 36 rfl) rfl
theorem q2808 : (Jvm.Cond.code ({ cls := "GameCalculatorModel", name := "clearText", desc := "()I" } : Jvm.MethodName) prog_18_method_76_code (2 : Nat) (Option.some Jvm.ClassFile.FieldType.int)) ∈ lw_all := lw_g (lw_at lw_m12 37 rfl) rfl
theorem q2810 : (Jvm.Cond.instanceMethod ({ cls := "GameCalculatorModel", name := "evaluate", desc := "(I)I" } : Jvm.MethodName)) ∈ lw_all := lw_g (lw_at lw_m12 39 rfl) rfl
theorem q2811 : (Jvm.Cond.selects "GameCalculatorModel" ({ cls := "GameCalculatorModel", name := "evaluate", desc := "(I)I" } : Jvm.MethodName) ({ cls := "GameCalculatorModel", name := "evaluate", desc := "(I)I" } : Jvm.MethodName)) ∈ lw_all := lw_g (lw_at lw_m12 40 rfl) rfl
theorem q2812 : (Jvm.Cond.code ({ cls := "GameCalculatorModel", name := "evaluate", desc := "(I)I" } : Jvm.MethodName) prog_18_method_95_code (3 : Nat) (Option.some Jvm.ClassFile.FieldType.int)) ∈ lw_all := lw_g (lw_at lw_m12 41 rfl) rfl
theorem q2813 : (Jvm.Cond.methodLink "GameCalculatorModel" (436 : Nat) ({ cls := "GameCalculatorModel", name := "readsText", desc := "(Z)Z" } : Jvm.MethodName)) ∈ lw_all := lw_g (lw_at lw_m12 42 rfl) rfl
theorem q2814 : (Jvm.Cond.privateMethod ({ cls := "GameCalculatorModel", name := "readsText", desc := "(Z)Z" } : Jvm.MethodName)) ∈ lw_tbl := lw_at lw_m12 43 rfl
theorem q2815 : (Jvm.Cond.instanceMethod ({ cls := "GameCalculatorModel", name := "readsText", desc := "(Z)Z" } : Jvm.MethodName)) ∈ lw_all := lw_g (lw_at lw_m12 44 rfl) rfl
theorem q2816 : (Jvm.Cond.code ({ cls := "GameCalculatorModel", name := "readsText", desc := "(Z)Z" } : Jvm.MethodName) prog_18_method_94_code (3 : Nat) (Option.some Jvm.ClassFile.FieldType.boolean)) ∈ lw_all := lw_g (lw_at lw_m12 45 rfl) rfl
theorem q2817 : (Jvm.Cond.methodLink "GameCalculatorModel" (401 : Nat) ({ cls := "GameCalculatorModel", name := "beginExpression", desc := "()V" } : Jvm.MethodName)) ∈ lw_all := lw_g (lw_at lw_m12 46 rfl) rfl
theorem q2818 : (Jvm.Cond.privateMethod ({ cls := "GameCalculatorModel", name := "beginExpression", desc := "()V" } : Jvm.MethodName)) ∈ lw_tbl := lw_at lw_m12 47 rfl
theorem q2819 : (Jvm.Cond.instanceMethod ({ cls := "GameCalculatorModel", name := "beginExpression", desc := "()V" } : Jvm.MethodName)) ∈ lw_all := lw_g (lw_at lw_m12 48 rfl) rfl
theorem q2820 : (Jvm.Cond.code ({ cls := "GameCalculatorModel", name := "beginExpression", desc := "()V" } : Jvm.MethodName) prog_18_method_86_code (1 : Nat) (Option.none : Option Jvm.ClassFile.FieldType)) ∈ lw_all := lw_g (lw_at lw_m12 49 rfl) rfl
theorem q2821 : (Jvm.Cond.methodLink "GameCalculatorModel" (370 : Nat) ({ cls := "GameCalculatorModel", name := "skip", desc := "()V" } : Jvm.MethodName)) ∈ lw_all := lw_g (lw_at lw_m12 50 rfl) rfl
theorem q2822 : (Jvm.Cond.privateMethod ({ cls := "GameCalculatorModel", name := "skip", desc := "()V" } : Jvm.MethodName)) ∈ lw_tbl := lw_at lw_m12 51 rfl
theorem q2823 : (Jvm.Cond.instanceMethod ({ cls := "GameCalculatorModel", name := "skip", desc := "()V" } : Jvm.MethodName)) ∈ lw_all := lw_g (lw_at lw_m12 52 rfl) rfl
theorem q2824 : (Jvm.Cond.code ({ cls := "GameCalculatorModel", name := "skip", desc := "()V" } : Jvm.MethodName) prog_18_method_78_code (1 : Nat) (Option.none : Option Jvm.ClassFile.FieldType)) ∈ lw_all := lw_g (lw_at lw_m12 53 rfl) rfl
theorem q2825 : (Jvm.Cond.methodLink "GameCalculatorModel" (367 : Nat) ({ cls := "GameCalculatorModel", name := "here", desc := "()I" } : Jvm.MethodName)) ∈ lw_all := lw_g (lw_at lw_m12 54 rfl) rfl
theorem q2826 : (Jvm.Cond.privateMethod ({ cls := "GameCalculatorModel", name := "here", desc := "()I" } : Jvm.MethodName)) ∈ lw_tbl := lw_at lw_m12 55 rfl
theorem q2827 : (Jvm.Cond.instanceMethod ({ cls := "GameCalculatorModel", name := "here", desc := "()I" } : Jvm.MethodName)) ∈ lw_all := lw_g (lw_at lw_m12 56 rfl) rfl
theorem q2828 : (Jvm.Cond.code ({ cls := "GameCalculatorModel", name := "here", desc := "()I" } : Jvm.MethodName) prog_18_method_77_code (1 : Nat) (Option.some Jvm.ClassFile.FieldType.int)) ∈ lw_all := lw_g (lw_at lw_m12 57 rfl) rfl
theorem q2829 : (Jvm.Cond.methodLink "GameCalculatorModel" (430 : Nat) ({ cls := "GameCalculatorModel", name := "readBehind", desc := "(I)V" } : Jvm.MethodName)) ∈ lw_all := lw_g (lw_at lw_m12 58 rfl) rfl
theorem q2830 : (Jvm.Cond.privateMethod ({ cls := "GameCalculatorModel", name := "readBehind", desc := "(I)V" } : Jvm.MethodName)) ∈ lw_tbl := lw_at lw_m12 59 rfl
theorem q2831 : (Jvm.Cond.instanceMethod ({ cls := "GameCalculatorModel", name := "readBehind", desc := "(I)V" } : Jvm.MethodName)) ∈ lw_all := lw_g (lw_at lw_m12 60 rfl) rfl
theorem q2832 : (Jvm.Cond.code ({ cls := "GameCalculatorModel", name := "readBehind", desc := "(I)V" } : Jvm.MethodName) prog_18_method_93_code (4 : Nat) (Option.none : Option Jvm.ClassFile.FieldType)) ∈ lw_all := lw_g (lw_at lw_m12 61 rfl) rfl
theorem q2833 : (Jvm.Cond.methodLink "GameCalculatorModel" (413 : Nat) ({ cls := "GameCalculatorModel", name := "close", desc := "()V" } : Jvm.MethodName)) ∈ lw_all := lw_g (lw_at lw_m12 62 rfl) rfl
theorem q2834 : (Jvm.Cond.privateMethod ({ cls := "GameCalculatorModel", name := "close", desc := "()V" } : Jvm.MethodName)) ∈ lw_tbl := lw_at lw_m12 63 rfl
theorem q2835 : (Jvm.Cond.instanceMethod ({ cls := "GameCalculatorModel", name := "close", desc := "()V" } : Jvm.MethodName)) ∈ lw_all := lw_g (lw_at lw_m12 64 rfl) rfl
theorem q2836 : (Jvm.Cond.code ({ cls := "GameCalculatorModel", name := "close", desc := "()V" } : Jvm.MethodName) prog_18_method_90_code (1 : Nat) (Option.none : Option Jvm.ClassFile.FieldType)) ∈ lw_all := lw_g (lw_at lw_m12 65 rfl) rfl
theorem q2837 : (Jvm.Cond.methodLink "GameCalculatorModel" (407 : Nat) ({ cls := "GameCalculatorModel", name := "makeBraces", desc := "()V" } : Jvm.MethodName)) ∈ lw_all := lw_g (lw_at lw_m12 66 rfl) rfl
theorem q2838 : (Jvm.Cond.privateMethod ({ cls := "GameCalculatorModel", name := "makeBraces", desc := "()V" } : Jvm.MethodName)) ∈ lw_tbl := lw_at lw_m12 67 rfl
theorem q2839 : (Jvm.Cond.instanceMethod ({ cls := "GameCalculatorModel", name := "makeBraces", desc := "()V" } : Jvm.MethodName)) ∈ lw_all := lw_g (lw_at lw_m12 68 rfl) rfl
theorem q2840 : (Jvm.Cond.code ({ cls := "GameCalculatorModel", name := "makeBraces", desc := "()V" } : Jvm.MethodName) prog_18_method_89_code (3 : Nat) (Option.none : Option Jvm.ClassFile.FieldType)) ∈ lw_all := lw_g (lw_at lw_m12 69 rfl) rfl
theorem q2841 : (Jvm.Cond.methodLink "GameCalculatorModel" (410 : Nat) ({ cls := "GameCalculatorModel", name := "closeTerm", desc := "()V" } : Jvm.MethodName)) ∈ lw_all := lw_g (lw_at lw_m12 70 rfl) rfl
theorem q2842 : (Jvm.Cond.privateMethod ({ cls := "GameCalculatorModel", name := "closeTerm", desc := "()V" } : Jvm.MethodName)) ∈ lw_tbl := lw_at lw_m12 71 rfl
theorem q2843 : (Jvm.Cond.instanceMethod ({ cls := "GameCalculatorModel", name := "closeTerm", desc := "()V" } : Jvm.MethodName)) ∈ lw_all := lw_g (lw_at lw_m12 72 rfl) rfl
theorem q2844 : (Jvm.Cond.code ({ cls := "GameCalculatorModel", name := "closeTerm", desc := "()V" } : Jvm.MethodName) prog_18_method_87_code (3 : Nat) (Option.none : Option Jvm.ClassFile.FieldType)) ∈ lw_all := lw_g (lw_at lw_m12 73 rfl) rfl
theorem q2845 : (Jvm.Cond.methodLink "GameCalculatorModel" (427 : Nat) ({ cls := "GameCalculatorModel", name := "closeElement", desc := "()V" } : Jvm.MethodName)) ∈ lw_all := lw_g (lw_at lw_m12 74 rfl) rfl
theorem q2846 : (Jvm.Cond.privateMethod ({ cls := "GameCalculatorModel", name := "closeElement", desc := "()V" } : Jvm.MethodName)) ∈ lw_tbl := lw_at lw_m12 75 rfl
theorem q2847 : (Jvm.Cond.instanceMethod ({ cls := "GameCalculatorModel", name := "closeElement", desc := "()V" } : Jvm.MethodName)) ∈ lw_all := lw_g (lw_at lw_m12 76 rfl) rfl
theorem q2848 : (Jvm.Cond.code ({ cls := "GameCalculatorModel", name := "closeElement", desc := "()V" } : Jvm.MethodName) prog_18_method_88_code (2 : Nat) (Option.none : Option Jvm.ClassFile.FieldType)) ∈ lw_all := lw_g (lw_at lw_m12 77 rfl) rfl
theorem q2849 : (Jvm.Cond.methodLink "GameCalculatorModel" (433 : Nat) ({ cls := "GameCalculatorModel", name := "readBegin", desc := "(I)V" } : Jvm.MethodName)) ∈ lw_all := lw_g (lw_at lw_m12 78 rfl) rfl
theorem q2850 : (Jvm.Cond.privateMethod ({ cls := "GameCalculatorModel", name := "readBegin", desc := "(I)V" } : Jvm.MethodName)) ∈ lw_tbl := lw_at lw_m12 79 rfl
theorem q2851 : (Jvm.Cond.instanceMethod ({ cls := "GameCalculatorModel", name := "readBegin", desc := "(I)V" } : Jvm.MethodName)) ∈ lw_all := lw_g (lw_at lw_m12 80 rfl) rfl
theorem q2852 : (Jvm.Cond.code ({ cls := "GameCalculatorModel", name := "readBegin", desc := "(I)V" } : Jvm.MethodName) prog_18_method_91_code (4 : Nat) (Option.none : Option Jvm.ClassFile.FieldType)) ∈ lw_all := lw_g (lw_at lw_m12 81 rfl) rfl
theorem q2853 : (Jvm.Cond.methodLink "GameCalculatorModel" (416 : Nat) ({ cls := "GameCalculatorModel", name := "readTerm", desc := "(I)V" } : Jvm.MethodName)) ∈ lw_all := lw_g (lw_at lw_m12 82 rfl) rfl
theorem q2854 : (Jvm.Cond.privateMethod ({ cls := "GameCalculatorModel", name := "readTerm", desc := "(I)V" } : Jvm.MethodName)) ∈ lw_tbl := lw_at lw_m12 83 rfl
theorem q2855 : (Jvm.Cond.instanceMethod ({ cls := "GameCalculatorModel", name := "readTerm", desc := "(I)V" } : Jvm.MethodName)) ∈ lw_all := lw_g (lw_at lw_m12 84 rfl) rfl
theorem q2856 : (Jvm.Cond.code ({ cls := "GameCalculatorModel", name := "readTerm", desc := "(I)V" } : Jvm.MethodName) prog_18_method_92_code (2 : Nat) (Option.none : Option Jvm.ClassFile.FieldType)) ∈ lw_all := lw_g (lw_at lw_m12 85 rfl) rfl
theorem q2857 : (Jvm.Cond.methodLink "GameCalculatorModel" (419 : Nat) ({ cls := "GameCalculatorModel", name := "open", desc := "(I)V" } : Jvm.MethodName)) ∈ lw_all := lw_g (lw_at lw_m12 86 rfl) rfl
theorem q2858 : (Jvm.Cond.privateMethod ({ cls := "GameCalculatorModel", name := "open", desc := "(I)V" } : Jvm.MethodName)) ∈ lw_tbl := lw_at lw_m12 87 rfl
theorem q2859 : (Jvm.Cond.instanceMethod ({ cls := "GameCalculatorModel", name := "open", desc := "(I)V" } : Jvm.MethodName)) ∈ lw_all := lw_g (lw_at lw_m12 88 rfl) rfl
theorem q2860 : (Jvm.Cond.code ({ cls := "GameCalculatorModel", name := "open", desc := "(I)V" } : Jvm.MethodName) prog_18_method_85_code (2 : Nat) (Option.none : Option Jvm.ClassFile.FieldType)) ∈ lw_all := lw_g (lw_at lw_m12 89 rfl) rfl
theorem q2861 : (Jvm.Cond.methodLink "GameCalculatorModel" (421 : Nat) ({ cls := "GameCalculatorModel", name := "readNumber", desc := "()V" } : Jvm.MethodName)) ∈ lw_all := lw_g (lw_at lw_m12 90 rfl) rfl
theorem q2862 : (Jvm.Cond.privateMethod ({ cls := "GameCalculatorModel", name := "readNumber", desc := "()V" } : Jvm.MethodName)) ∈ lw_tbl := lw_at lw_m12 91 rfl
theorem q2863 : (Jvm.Cond.instanceMethod ({ cls := "GameCalculatorModel", name := "readNumber", desc := "()V" } : Jvm.MethodName)) ∈ lw_all := lw_g (lw_at lw_m12 92 rfl) rfl
theorem q2864 : (Jvm.Cond.code ({ cls := "GameCalculatorModel", name := "readNumber", desc := "()V" } : Jvm.MethodName) prog_18_method_81_code (5 : Nat) (Option.none : Option Jvm.ClassFile.FieldType)) ∈ lw_all := lw_g (lw_at lw_m12 93 rfl) rfl
theorem q2865 : (Jvm.Cond.methodLink "GameCalculatorModel" (379 : Nat) ({ cls := "GameCalculatorModel", name := "reads", desc := "(I)Z" } : Jvm.MethodName)) ∈ lw_all := lw_g (lw_at lw_m12 94 rfl) rfl
theorem q2866 : (Jvm.Cond.privateMethod ({ cls := "GameCalculatorModel", name := "reads", desc := "(I)Z" } : Jvm.MethodName)) ∈ lw_tbl := lw_at lw_m12 95 rfl
theorem q2867 : (Jvm.Cond.instanceMethod ({ cls := "GameCalculatorModel", name := "reads", desc := "(I)Z" } : Jvm.MethodName)) ∈ lw_all := lw_g (lw_at lw_m12 96 rfl) rfl
theorem q2868 : (Jvm.Cond.code ({ cls := "GameCalculatorModel", name := "reads", desc := "(I)Z" } : Jvm.MethodName) prog_18_method_80_code (5 : Nat) (Option.some Jvm.ClassFile.FieldType.boolean)) ∈ lw_all := lw_g (lw_at lw_m12 97 rfl) rfl
theorem q2869 : (Jvm.Cond.methodLink "GameCalculatorModel" (376 : Nat) ({ cls := "GameCalculatorModel", name := "isDigit", desc := "()Z" } : Jvm.MethodName)) ∈ lw_all := lw_g (lw_at lw_m12 98 rfl) rfl
theorem q2870 : (Jvm.Cond.privateMethod ({ cls := "GameCalculatorModel", name := "isDigit", desc := "()Z" } : Jvm.MethodName)) ∈ lw_tbl := lw_at lw_m12 99 rfl
theorem q2871 : (Jvm.Cond.instanceMethod ({ cls := "GameCalculatorModel", name := "isDigit", desc := "()Z" } : Jvm.MethodName)) ∈ lw_all := lw_g (lw_at lw_m12 100 rfl) rfl
theorem q2872 : (Jvm.Cond.code ({ cls := "GameCalculatorModel", name := "isDigit", desc := "()Z" } : Jvm.MethodName) prog_18_method_79_code (1 : Nat) (Option.some Jvm.ClassFile.FieldType.boolean)) ∈ lw_all := lw_g (lw_at lw_m12 101 rfl) rfl
theorem q2873 : (Jvm.Cond.methodLink "GameCalculatorModel" (424 : Nat) ({ cls := "GameCalculatorModel", name := "readGame", desc := "(I)V" } : Jvm.MethodName)) ∈ lw_all := lw_g (lw_at lw_m12 102 rfl) rfl
theorem q2874 : (Jvm.Cond.privateMethod ({ cls := "GameCalculatorModel", name := "readGame", desc := "(I)V" } : Jvm.MethodName)) ∈ lw_tbl := lw_at lw_m12 103 rfl
theorem q2875 : (Jvm.Cond.instanceMethod ({ cls := "GameCalculatorModel", name := "readGame", desc := "(I)V" } : Jvm.MethodName)) ∈ lw_all := lw_g (lw_at lw_m12 104 rfl) rfl
theorem q2876 : (Jvm.Cond.code ({ cls := "GameCalculatorModel", name := "readGame", desc := "(I)V" } : Jvm.MethodName) prog_18_method_84_code (3 : Nat) (Option.none : Option Jvm.ClassFile.FieldType)) ∈ lw_all := lw_g (lw_at lw_m12 105 rfl) rfl
theorem q2877 : (Jvm.Cond.methodLink "GameCalculatorModel" (392 : Nat) ({ cls := "GameCalculatorModel", name := "readSlot", desc := "()V" } : Jvm.MethodName)) ∈ lw_all := lw_g (lw_at lw_m12 106 rfl) rfl
theorem q2878 : (Jvm.Cond.privateMethod ({ cls := "GameCalculatorModel", name := "readSlot", desc := "()V" } : Jvm.MethodName)) ∈ lw_tbl := lw_at lw_m12 107 rfl
theorem q2879 : (Jvm.Cond.instanceMethod ({ cls := "GameCalculatorModel", name := "readSlot", desc := "()V" } : Jvm.MethodName)) ∈ lw_all := lw_g (lw_at lw_m12 108 rfl) rfl
theorem q2880 : (Jvm.Cond.code ({ cls := "GameCalculatorModel", name := "readSlot", desc := "()V" } : Jvm.MethodName) prog_18_method_83_code (2 : Nat) (Option.none : Option Jvm.ClassFile.FieldType)) ∈ lw_all := lw_g (lw_at lw_m12 109 rfl) rfl
theorem q2881 : (Jvm.Cond.methodLink "GameCalculatorModel" (395 : Nat) ({ cls := "GameCalculatorModel", name := "digit", desc := "(II)I" } : Jvm.MethodName)) ∈ lw_all := lw_g (lw_at lw_m12 110 rfl) rfl
theorem q2882 : (Jvm.Cond.privateMethod ({ cls := "GameCalculatorModel", name := "digit", desc := "(II)I" } : Jvm.MethodName)) ∈ lw_tbl := lw_at lw_m12 111 rfl
theorem q2883 : (Jvm.Cond.instanceMethod ({ cls := "GameCalculatorModel", name := "digit", desc := "(II)I" } : Jvm.MethodName)) ∈ lw_all := lw_g (lw_at lw_m12 112 rfl) rfl
theorem q2884 : (Jvm.Cond.code ({ cls := "GameCalculatorModel", name := "digit", desc := "(II)I" } : Jvm.MethodName) prog_18_method_82_code (3 : Nat) (Option.some Jvm.ClassFile.FieldType.int)) ∈ lw_all := lw_g (lw_at lw_m12 113 rfl) rfl
theorem q2886 : (Jvm.Cond.instanceMethod ({ cls := "GameCalculatorModel", name := "compare", desc := "(II)I" } : Jvm.MethodName)) ∈ lw_all := lw_g (lw_at lw_m12 115 rfl) rfl
theorem q2887 : (Jvm.Cond.selects "GameCalculatorModel" ({ cls := "GameCalculatorModel", name := "compare", desc := "(II)I" } : Jvm.MethodName) ({ cls := "GameCalculatorModel", name := "compare", desc := "(II)I" } : Jvm.MethodName)) ∈ lw_all := lw_g (lw_at lw_m12 116 rfl) rfl
theorem q2888 : (Jvm.Cond.code ({ cls := "GameCalculatorModel", name := "compare", desc := "(II)I" } : Jvm.MethodName) prog_18_method_97_code (4 : Nat) (Option.some Jvm.ClassFile.FieldType.int)) ∈ lw_all := lw_g (lw_at lw_m12 117 rfl) rfl
theorem q2889 : (Jvm.Cond.methodLink "GameCalculatorModel" (440 : Nat) ({ cls := "GameCalculatorModel", name := "relation", desc := "(II)I" } : Jvm.MethodName)) ∈ lw_all := lw_g (lw_at lw_m12 118 rfl) rfl
theorem q2890 : (Jvm.Cond.privateMethod ({ cls := "GameCalculatorModel", name := "relation", desc := "(II)I" } : Jvm.MethodName)) ∈ lw_tbl := lw_at lw_m12 119 rfl
theorem q2891 : (Jvm.Cond.instanceMethod ({ cls := "GameCalculatorModel", name := "relation", desc := "(II)I" } : Jvm.MethodName)) ∈ lw_all := lw_g (lw_at lw_m12 120 rfl) rfl
theorem q2892 : (Jvm.Cond.code ({ cls := "GameCalculatorModel", name := "relation", desc := "(II)I" } : Jvm.MethodName) prog_18_method_96_code (3 : Nat) (Option.some Jvm.ClassFile.FieldType.int)) ∈ lw_all := lw_g (lw_at lw_m12 121 rfl) rfl
theorem q2894 : (Jvm.Cond.instanceMethod ({ cls := "GameCalculatorModel", name := "outcome", desc := "(I)I" } : Jvm.MethodName)) ∈ lw_all := lw_g (lw_at lw_m12 123 rfl) rfl
theorem q2895 : (Jvm.Cond.selects "GameCalculatorModel" ({ cls := "GameCalculatorModel", name := "outcome", desc := "(I)I" } : Jvm.MethodName) ({ cls := "GameCalculatorModel", name := "outcome", desc := "(I)I" } : Jvm.MethodName)) ∈ lw_all := lw_g (lw_at lw_m12 124 rfl) rfl
theorem q2896 : (Jvm.Cond.code ({ cls := "GameCalculatorModel", name := "outcome", desc := "(I)I" } : Jvm.MethodName) prog_18_method_98_code (2 : Nat) (Option.some Jvm.ClassFile.FieldType.int)) ∈ lw_all := lw_g (lw_at lw_m12 125 rfl) rfl
theorem q2898 : (Jvm.Cond.instanceMethod ({ cls := "GameCalculatorModel", name := "winningMove", desc := "(II)I" } : Jvm.MethodName)) ∈ lw_all := lw_g (lw_at lw_m12 127 rfl) rfl
theorem q2899 : (Jvm.Cond.selects "GameCalculatorModel" ({ cls := "GameCalculatorModel", name := "winningMove", desc := "(II)I" } : Jvm.MethodName) ({ cls := "GameCalculatorModel", name := "winningMove", desc := "(II)I" } : Jvm.MethodName)) ∈ lw_all := lw_g (lw_at lw_m12 128 rfl) rfl
theorem q2900 : (Jvm.Cond.code ({ cls := "GameCalculatorModel", name := "winningMove", desc := "(II)I" } : Jvm.MethodName) prog_18_method_99_code (6 : Nat) (Option.some Jvm.ClassFile.FieldType.int)) ∈ lw_all := lw_g (lw_at lw_m12 129 rfl) rfl
theorem q2902 : (Jvm.Cond.instanceMethod ({ cls := "GameCalculatorModel", name := "birthday", desc := "(I)I" } : Jvm.MethodName)) ∈ lw_all := lw_g (lw_at lw_m12 131 rfl) rfl
theorem q2903 : (Jvm.Cond.selects "GameCalculatorModel" ({ cls := "GameCalculatorModel", name := "birthday", desc := "(I)I" } : Jvm.MethodName) ({ cls := "GameCalculatorModel", name := "birthday", desc := "(I)I" } : Jvm.MethodName)) ∈ lw_all := lw_g (lw_at lw_m12 132 rfl) rfl
theorem q2904 : (Jvm.Cond.code ({ cls := "GameCalculatorModel", name := "birthday", desc := "(I)I" } : Jvm.MethodName) prog_18_method_100_code (2 : Nat) (Option.some Jvm.ClassFile.FieldType.int)) ∈ lw_all := lw_g (lw_at lw_m12 133 rfl) rfl
theorem q2906 : (Jvm.Cond.instanceMethod ({ cls := "GameCalculatorModel", name := "positions", desc := "(I)I" } : Jvm.MethodName)) ∈ lw_all := lw_g (lw_at lw_m12 135 rfl) rfl
theorem q2907 : (Jvm.Cond.selects "GameCalculatorModel" ({ cls := "GameCalculatorModel", name := "positions", desc := "(I)I" } : Jvm.MethodName) ({ cls := "GameCalculatorModel", name := "positions", desc := "(I)I" } : Jvm.MethodName)) ∈ lw_all := lw_g (lw_at lw_m12 136 rfl) rfl
theorem q2908 : (Jvm.Cond.code ({ cls := "GameCalculatorModel", name := "positions", desc := "(I)I" } : Jvm.MethodName) prog_18_method_101_code (2 : Nat) (Option.some Jvm.ClassFile.FieldType.int)) ∈ lw_all := lw_g (lw_at lw_m12 137 rfl) rfl
theorem q2910 : (Jvm.Cond.instanceMethod ({ cls := "GameCalculatorModel", name := "options", desc := "(II)I" } : Jvm.MethodName)) ∈ lw_all := lw_g (lw_at lw_m12 139 rfl) rfl
theorem q2911 : (Jvm.Cond.selects "GameCalculatorModel" ({ cls := "GameCalculatorModel", name := "options", desc := "(II)I" } : Jvm.MethodName) ({ cls := "GameCalculatorModel", name := "options", desc := "(II)I" } : Jvm.MethodName)) ∈ lw_all := lw_g (lw_at lw_m12 140 rfl) rfl
theorem q2912 : (Jvm.Cond.code ({ cls := "GameCalculatorModel", name := "options", desc := "(II)I" } : Jvm.MethodName) prog_18_method_102_code (3 : Nat) (Option.some Jvm.ClassFile.FieldType.int)) ∈ lw_all := lw_g (lw_at lw_m12 141 rfl) rfl
theorem q2913 : (Jvm.Cond.methodLink "GameCalculatorModel" (443 : Nat) ({ cls := "GameCalculatorModel", name := "count", desc := "(I)I" } : Jvm.MethodName)) ∈ lw_all := lw_g (lw_at lw_m12 142 rfl) rfl
theorem q2914 : (Jvm.Cond.static ({ cls := "GameCalculatorModel", name := "count", desc := "(I)I" } : Jvm.MethodName)) ∈ lw_all := lw_g (lw_at lw_m12 143 rfl) rfl
theorem q2915 : (Jvm.Cond.code ({ cls := "GameCalculatorModel", name := "count", desc := "(I)I" } : Jvm.MethodName) prog_18_method_58_code (3 : Nat) (Option.some Jvm.ClassFile.FieldType.int)) ∈ lw_all := lw_g (lw_at lw_m12 144 rfl) rfl
theorem q2917 : (Jvm.Cond.instanceMethod ({ cls := "GameCalculatorModel", name := "number", desc := "(II)I" } : Jvm.MethodName)) ∈ lw_all := lw_g (lw_at lw_m12 146 rfl) rfl
theorem q2918 : (Jvm.Cond.selects "GameCalculatorModel" ({ cls := "GameCalculatorModel", name := "number", desc := "(II)I" } : Jvm.MethodName) ({ cls := "GameCalculatorModel", name := "number", desc := "(II)I" } : Jvm.MethodName)) ∈ lw_all := lw_g (lw_at lw_m12 147 rfl) rfl
theorem q2919 : (Jvm.Cond.code ({ cls := "GameCalculatorModel", name := "number", desc := "(II)I" } : Jvm.MethodName) prog_18_method_103_code (3 : Nat) (Option.some Jvm.ClassFile.FieldType.int)) ∈ lw_all := lw_g (lw_at lw_m12 148 rfl) rfl
theorem q2920 : (Jvm.Cond.methodLink "GameCalculatorModel" (446 : Nat) ({ cls := "GameCalculatorModel", name := "partOf", desc := "(JI)I" } : Jvm.MethodName)) ∈ lw_all := lw_g (lw_at lw_m12 149 rfl) rfl
theorem q2921 : (Jvm.Cond.static ({ cls := "GameCalculatorModel", name := "partOf", desc := "(JI)I" } : Jvm.MethodName)) ∈ lw_all := lw_g (lw_at lw_m12 150 rfl) rfl
theorem q2922 : (Jvm.Cond.code ({ cls := "GameCalculatorModel", name := "partOf", desc := "(JI)I" } : Jvm.MethodName) prog_18_method_34_code (3 : Nat) (Option.some Jvm.ClassFile.FieldType.int)) ∈ lw_all := lw_g (lw_at lw_m12 151 rfl) rfl
theorem q2924 : (Jvm.Cond.instanceMethod ({ cls := "GameCalculatorModel", name := "nimber", desc := "(I)I" } : Jvm.MethodName)) ∈ lw_all := lw_g (lw_at lw_m12 153 rfl) rfl
theorem q2925 : (Jvm.Cond.selects "GameCalculatorModel" ({ cls := "GameCalculatorModel", name := "nimber", desc := "(I)I" } : Jvm.MethodName) ({ cls := "GameCalculatorModel", name := "nimber", desc := "(I)I" } : Jvm.MethodName)) ∈ lw_all := lw_g (lw_at lw_m12 154 rfl) rfl
theorem q2926 : (Jvm.Cond.code ({ cls := "GameCalculatorModel", name := "nimber", desc := "(I)I" } : Jvm.MethodName) prog_18_method_104_code (2 : Nat) (Option.some Jvm.ClassFile.FieldType.int)) ∈ lw_all := lw_g (lw_at lw_m12 155 rfl) rfl
theorem q2928 : (Jvm.Cond.instanceMethod ({ cls := "GameCalculatorModel", name := "ups", desc := "(II)I" } : Jvm.MethodName)) ∈ lw_all := lw_g (lw_at lw_m12 157 rfl) rfl
theorem q2929 : (Jvm.Cond.selects "GameCalculatorModel" ({ cls := "GameCalculatorModel", name := "ups", desc := "(II)I" } : Jvm.MethodName) ({ cls := "GameCalculatorModel", name := "ups", desc := "(II)I" } : Jvm.MethodName)) ∈ lw_all := lw_g (lw_at lw_m12 158 rfl) rfl
theorem q2930 : (Jvm.Cond.code ({ cls := "GameCalculatorModel", name := "ups", desc := "(II)I" } : Jvm.MethodName) prog_18_method_105_code (4 : Nat) (Option.some Jvm.ClassFile.FieldType.int)) ∈ lw_all := lw_g (lw_at lw_m12 159 rfl) rfl
theorem q2932 : (Jvm.Cond.instanceMethod ({ cls := "GameCalculatorModel", name := "isInfinitesimal", desc := "(I)I" } : Jvm.MethodName)) ∈ lw_all := lw_g (lw_at lw_m12 161 rfl) rfl
theorem q2933 : (Jvm.Cond.selects "GameCalculatorModel" ({ cls := "GameCalculatorModel", name := "isInfinitesimal", desc := "(I)I" } : Jvm.MethodName) ({ cls := "GameCalculatorModel", name := "isInfinitesimal", desc := "(I)I" } : Jvm.MethodName)) ∈ lw_all := lw_g (lw_at lw_m12 162 rfl) rfl
theorem q2934 : (Jvm.Cond.code ({ cls := "GameCalculatorModel", name := "isInfinitesimal", desc := "(I)I" } : Jvm.MethodName) prog_18_method_111_code (2 : Nat) (Option.some Jvm.ClassFile.FieldType.int)) ∈ lw_all := lw_g (lw_at lw_m12 163 rfl) rfl
theorem q2935 : (Jvm.Cond.methodLink "GameCalculatorModel" (467 : Nat) ({ cls := "GameCalculatorModel", name := "wallOf", desc := "(IIJ)J" } : Jvm.MethodName)) ∈ lw_all := lw_g (lw_at lw_m12 164 rfl) rfl
theorem q2936 : (Jvm.Cond.privateMethod ({ cls := "GameCalculatorModel", name := "wallOf", desc := "(IIJ)J" } : Jvm.MethodName)) ∈ lw_tbl := lw_at lw_m12 165 rfl
theorem q2937 : (Jvm.Cond.instanceMethod ({ cls := "GameCalculatorModel", name := "wallOf", desc := "(IIJ)J" } : Jvm.MethodName)) ∈ lw_all := lw_g (lw_at lw_m12 166 rfl) rfl
theorem q2938 : (Jvm.Cond.code ({ cls := "GameCalculatorModel", name := "wallOf", desc := "(IIJ)J" } : Jvm.MethodName) prog_18_method_110_code (7 : Nat) (Option.some Jvm.ClassFile.FieldType.long)) ∈ lw_all := lw_g (lw_at lw_m12 167 rfl) rfl
theorem q2939 : (Jvm.Cond.methodLink "GameCalculatorModel" (464 : Nat) ({ cls := "GameCalculatorModel", name := "heat", desc := "(I)V" } : Jvm.MethodName)) ∈ lw_all := lw_g (lw_at lw_m12 168 rfl) rfl
theorem q2940 : (Jvm.Cond.privateMethod ({ cls := "GameCalculatorModel", name := "heat", desc := "(I)V" } : Jvm.MethodName)) ∈ lw_tbl := lw_at lw_m12 169 rfl
theorem q2941 : (Jvm.Cond.instanceMethod ({ cls := "GameCalculatorModel", name := "heat", desc := "(I)V" } : Jvm.MethodName)) ∈ lw_all := lw_g (lw_at lw_m12 170 rfl) rfl
theorem q2942 : (Jvm.Cond.code ({ cls := "GameCalculatorModel", name := "heat", desc := "(I)V" } : Jvm.MethodName) prog_18_method_109_code (12 : Nat) (Option.none : Option Jvm.ClassFile.FieldType)) ∈ lw_all := lw_g (lw_at lw_m12 171 rfl) rfl
theorem q2943 : (Jvm.Cond.constantLong "GameCalculatorModel" (456 : Nat) (-1 : Int64)) ∈ lw_all := lw_g (lw_at lw_m12 172 rfl) rfl
theorem q2944 : (Jvm.Cond.constantLong "GameCalculatorModel" (458 : Nat) (70368744177664 : Int64)) ∈ lw_all := lw_g (lw_at lw_m12 173 rfl) rfl
theorem q2945 : (Jvm.Cond.methodLink "GameCalculatorModel" (460 : Nat) ({ cls := "GameCalculatorModel", name := "layWalls", desc := "(IIJ)V" } : Jvm.MethodName)) ∈ lw_all := lw_g (lw_at lw_m12 174 rfl) rfl
theorem q2946 : (Jvm.Cond.privateMethod ({ cls := "GameCalculatorModel", name := "layWalls", desc := "(IIJ)V" } : Jvm.MethodName)) ∈ lw_tbl := lw_at lw_m12 175 rfl
theorem q2947 : (Jvm.Cond.instanceMethod ({ cls := "GameCalculatorModel", name := "layWalls", desc := "(IIJ)V" } : Jvm.MethodName)) ∈ lw_all := lw_g (lw_at lw_m12 176 rfl) rfl
theorem q2948 : (Jvm.Cond.code ({ cls := "GameCalculatorModel", name := "layWalls", desc := "(IIJ)V" } : Jvm.MethodName) prog_18_method_108_code (6 : Nat) (Option.none : Option Jvm.ClassFile.FieldType)) ∈ lw_all := lw_g (lw_at lw_m12 177 rfl) rfl
theorem q2949 : (Jvm.Cond.methodLink "GameCalculatorModel" (449 : Nat) ({ cls := "GameCalculatorModel", name := "most", desc := "(I[J)J" } : Jvm.MethodName)) ∈ lw_all := lw_g (lw_at lw_m12 178 rfl) rfl
theorem q2950 : (Jvm.Cond.static ({ cls := "GameCalculatorModel", name := "most", desc := "(I[J)J" } : Jvm.MethodName)) ∈ lw_all := lw_g (lw_at lw_m12 179 rfl) rfl
theorem q2951 : (Jvm.Cond.code ({ cls := "GameCalculatorModel", name := "most", desc := "(I[J)J" } : Jvm.MethodName) prog_18_method_106_code (5 : Nat) (Option.some Jvm.ClassFile.FieldType.long)) ∈ lw_all := lw_g (lw_at lw_m12 180 rfl) rfl
theorem q2952 : (Jvm.Cond.methodLink "GameCalculatorModel" (453 : Nat) ({ cls := "GameCalculatorModel", name := "least", desc := "(I[J)J" } : Jvm.MethodName)) ∈ lw_all := lw_g (lw_at lw_m12 181 rfl) rfl
theorem q2953 : (Jvm.Cond.static ({ cls := "GameCalculatorModel", name := "least", desc := "(I[J)J" } : Jvm.MethodName)) ∈ lw_all := lw_g (lw_at lw_m12 182 rfl) rfl
theorem q2954 : (Jvm.Cond.code ({ cls := "GameCalculatorModel", name := "least", desc := "(I[J)J" } : Jvm.MethodName) prog_18_method_107_code (5 : Nat) (Option.some Jvm.ClassFile.FieldType.long)) ∈ lw_all := lw_g (lw_at lw_m12 183 rfl) rfl
theorem q2956 : (Jvm.Cond.instanceMethod ({ cls := "GameCalculatorModel", name := "stop", desc := "(III)I" } : Jvm.MethodName)) ∈ lw_all := lw_g (lw_at lw_m12 185 rfl) rfl
theorem q2957 : (Jvm.Cond.selects "GameCalculatorModel" ({ cls := "GameCalculatorModel", name := "stop", desc := "(III)I" } : Jvm.MethodName) ({ cls := "GameCalculatorModel", name := "stop", desc := "(III)I" } : Jvm.MethodName)) ∈ lw_all := lw_g (lw_at lw_m12 186 rfl) rfl
theorem q2958 : (Jvm.Cond.code ({ cls := "GameCalculatorModel", name := "stop", desc := "(III)I" } : Jvm.MethodName) prog_18_method_112_code (4 : Nat) (Option.some Jvm.ClassFile.FieldType.int)) ∈ lw_all := lw_g (lw_at lw_m12 187 rfl) rfl
theorem q2960 : (Jvm.Cond.instanceMethod ({ cls := "GameCalculatorModel", name := "mean", desc := "(II)I" } : Jvm.MethodName)) ∈ lw_all := lw_g (lw_at lw_m12 189 rfl) rfl
theorem q2961 : (Jvm.Cond.selects "GameCalculatorModel" ({ cls := "GameCalculatorModel", name := "mean", desc := "(II)I" } : Jvm.MethodName) ({ cls := "GameCalculatorModel", name := "mean", desc := "(II)I" } : Jvm.MethodName)) ∈ lw_all := lw_g (lw_at lw_m12 190 rfl) rfl
theorem q2962 : (Jvm.Cond.code ({ cls := "GameCalculatorModel", name := "mean", desc := "(II)I" } : Jvm.MethodName) prog_18_method_113_code (3 : Nat) (Option.some Jvm.ClassFile.FieldType.int)) ∈ lw_all := lw_g (lw_at lw_m12 191 rfl) rfl
theorem q2963 : (Jvm.Cond.constantLong "GameCalculatorModel" (471 : Nat) (71468255805440 : Int64)) ∈ lw_all := lw_g (lw_at lw_m12 192 rfl) rfl
theorem q2965 : (Jvm.Cond.instanceMethod ({ cls := "GameCalculatorModel", name := "temperature", desc := "(II)I" } : Jvm.MethodName)) ∈ lw_all := lw_g (lw_at lw_m12 194 rfl) rfl
theorem q2966 : (Jvm.Cond.selects "GameCalculatorModel" ({ cls := "GameCalculatorModel", name := "temperature", desc := "(II)I" } : Jvm.MethodName) ({ cls := "GameCalculatorModel", name := "temperature", desc := "(II)I" } : Jvm.MethodName)) ∈ lw_all := lw_g (lw_at lw_m12 195 rfl) rfl
theorem q2967 : (Jvm.Cond.code ({ cls := "GameCalculatorModel", name := "temperature", desc := "(II)I" } : Jvm.MethodName) prog_18_method_114_code (3 : Nat) (Option.some Jvm.ClassFile.FieldType.int)) ∈ lw_all := lw_g (lw_at lw_m12 196 rfl) rfl
theorem q2969 : (Jvm.Cond.instanceMethod ({ cls := "GameCalculatorModel", name := "wall", desc := "(IIIII)I" } : Jvm.MethodName)) ∈ lw_all := lw_g (lw_at lw_m12 198 rfl) rfl
theorem q2970 : (Jvm.Cond.selects "GameCalculatorModel" ({ cls := "GameCalculatorModel", name := "wall", desc := "(IIIII)I" } : Jvm.MethodName) ({ cls := "GameCalculatorModel", name := "wall", desc := "(IIIII)I" } : Jvm.MethodName)) ∈ lw_all := lw_g (lw_at lw_m12 199 rfl) rfl
theorem q2971 : (Jvm.Cond.code ({ cls := "GameCalculatorModel", name := "wall", desc := "(IIIII)I" } : Jvm.MethodName) prog_18_method_115_code (6 : Nat) (Option.some Jvm.ClassFile.FieldType.int)) ∈ lw_all := lw_g (lw_at lw_m12 200 rfl) rfl
theorem q2973 : (Jvm.Cond.instanceMethod ({ cls := "GameCalculatorModel", name := "undo", desc := "()I" } : Jvm.MethodName)) ∈ lw_all := lw_g (lw_at lw_m12 202 rfl) rfl
theorem q2974 : (Jvm.Cond.selects "GameCalculatorModel" ({ cls := "GameCalculatorModel", name := "undo", desc := "()I" } : Jvm.MethodName) ({ cls := "GameCalculatorModel", name := "undo", desc := "()I" } : Jvm.MethodName)) ∈ lw_all := lw_g (lw_at lw_m12 203 rfl) rfl
theorem q2975 : (Jvm.Cond.code ({ cls := "GameCalculatorModel", name := "undo", desc := "()I" } : Jvm.MethodName) prog_18_method_116_code (2 : Nat) (Option.some Jvm.ClassFile.FieldType.int)) ∈ lw_all := lw_g (lw_at lw_m12 204 rfl) rfl
theorem q3006 : (Jvm.Cond.castable "GameCalculatorModel" "java/lang/Object") ∈ lw_tbl := lw_at lw_m12 235 rfl
theorem in_X4 : ∀ w ∈ wsX40, w ∈ lw_all := lw_in wsX40 [2505, 2507, 2509, 2511, 2513, 2515, 2517, 2519, 2521, 2523, 2525, 2527, 2529, 2531, 2533, 2535, 2537, 2539, 2541, 2543, 2545, 2547, 2549, 2551, 2553, 2555, 2557, 2559, 2561, 2563, 2565, 2567, 2569, 2571, 2573, 2575, 2577, 2579, 2581, 2583, 2585, 2587, 2589, 2591, 2593, 2595, 2597, 2599, 2601, 2603, 2605, 2607, 2609, 2611, 2613, 2615, 2617, 2619, 2621] (by decide +kernel) (by decide +kernel)
