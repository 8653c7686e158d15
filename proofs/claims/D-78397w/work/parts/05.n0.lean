/-! GameCalculator -/
set_option maxRecDepth 100000
def RX0 : String := "GameCalculator"
def TX0 : u_T := fun k => match k with
  | 0 => ("GameCalculator", "arena", "LGameCalculator$Arena;", true)
  | 1 => ("GameCalculator", "sums", "[[LGameCalculator$Game;", true)
  | 2 => ("GameCalculator", "ups", "[LGameCalculator$Form;", true)
  | 3 => ("GameCalculator", "slots", "[LGameCalculator$Form;", true)
  | 4 => ("GameCalculator", "history", "Ljava/util/ArrayDeque;", true)
  | 5 => ("GameCalculator", "draftLeft", "Ljava/util/List;", true)
  | 6 => ("GameCalculator", "draftRight", "Ljava/util/List;", true)
  | 7 => ("GameCalculator", "signs", "Ljava/util/BitSet;", true)
  | 8 => ("GameCalculator", "signCount", "I", false)
  | _ => ("GameCalculator", "text", "Ljava/lang/StringBuilder;", true)
def tyX0 : Nat → FieldType := fun k => match k with
  | 0 => .object "GameCalculator$Arena"
  | 1 => .array (.array (.object "GameCalculator$Game"))
  | 2 => .array (.object "GameCalculator$Form")
  | 3 => .array (.object "GameCalculator$Form")
  | 4 => .object "java/util/ArrayDeque"
  | 5 => .object "java/util/List"
  | 6 => .object "java/util/List"
  | 7 => .object "java/util/BitSet"
  | 8 => .int
  | _ => .object "java/lang/StringBuilder"
abbrev wsX00 : List Cond := u_ws RX0 TX0 10
theorem nmX0 : ∀ a, a < 10 → ∀ b, b < 10 → a ≠ b → (TX0 a).2.1 ≠ (TX0 b).2.1 := by decide +kernel
theorem tyX0_ok : ∀ k, k < 10 → parseFieldDescriptor (TX0 k).2.2.1 = some (tyX0 k) := by decide +kernel
abbrev cX0_init : ByteArray := prog_1_method_22_code
def yX0_init : MethodName := ⟨RX0, "<init>", "()V"⟩
def dkwX0_init_5 : List UInt8 := [187, 0, 16, 89, 4, 183, 0, 247, 83, 132, 1, 1, 167, 255, 233, 177]
abbrev dktX0_init_5 : List UInt8 := dkwX0_init_5 ++ []
def dkwX0_init_4 : List UInt8 := [187, 0, 240, 89, 183, 0, 242, 181, 0, 243, 3, 60, 27, 16, 12, 162, 0, 23, 42, 180, 0, 217, 27]
abbrev dktX0_init_4 : List UInt8 := dkwX0_init_4 ++ dktX0_init_5
def dkwX0_init_3 : List UInt8 := [187, 0, 227, 89, 183, 0, 229, 181, 0, 233, 42, 187, 0, 154, 89, 183, 0, 159, 181, 0, 236, 42]
abbrev dktX0_init_3 : List UInt8 := dkwX0_init_3 ++ dktX0_init_4
def dkwX0_init_2 : List UInt8 := [187, 0, 220, 89, 183, 0, 222, 181, 0, 223, 42, 187, 0, 227, 89, 183, 0, 229, 181, 0, 230, 42]
abbrev dktX0_init_2 : List UInt8 := dkwX0_init_2 ++ dktX0_init_3
def dkwX0_init_1 : List UInt8 := [181, 0, 30, 42, 16, 36, 189, 0, 16, 181, 0, 119, 42, 16, 12, 189, 0, 16, 181, 0, 217, 42]
abbrev dktX0_init_1 : List UInt8 := dkwX0_init_1 ++ dktX0_init_2
def dkwX0_init_0 : List UInt8 := [42, 183, 0, 212, 42, 187, 0, 10, 89, 183, 0, 215, 181, 0, 5, 42, 16, 32, 16, 32, 197, 0, 216, 2]
abbrev dktX0_init_0 : List UInt8 := dkwX0_init_0 ++ dktX0_init_1
theorem dksX0_init_0 : cX0_init.data.toList.drop 0 = dktX0_init_0 := by decide +kernel
theorem dksX0_init_1 : cX0_init.data.toList.drop 24 = dktX0_init_1 := dk_seg dksX0_init_0 24 rfl rfl
theorem dksX0_init_2 : cX0_init.data.toList.drop 46 = dktX0_init_2 := dk_seg dksX0_init_1 22 rfl rfl
theorem dksX0_init_3 : cX0_init.data.toList.drop 68 = dktX0_init_3 := dk_seg dksX0_init_2 22 rfl rfl
theorem dksX0_init_4 : cX0_init.data.toList.drop 90 = dktX0_init_4 := dk_seg dksX0_init_3 22 rfl rfl
theorem dksX0_init_5 : cX0_init.data.toList.drop 113 = dktX0_init_5 := dk_seg dksX0_init_4 23 rfl rfl
theorem dX0_init_0 : decode cX0_init 0 = .ok (.aload_n 0, 1) := dk_42 (dk_at dksX0_init_0 0 rfl rfl)
theorem dX0_init_1 : decode cX0_init 1 = .ok (.invokespecial 212, 3) := dk_183 0 212 (dk_at dksX0_init_0 1 rfl rfl)
theorem dX0_init_4 : decode cX0_init 4 = .ok (.aload_n 0, 1) := dk_42 (dk_at dksX0_init_0 4 rfl rfl)
theorem dX0_init_5 : decode cX0_init 5 = .ok (.new 10, 3) := dk_187 0 10 (dk_at dksX0_init_0 5 rfl rfl)
theorem dX0_init_8 : decode cX0_init 8 = .ok (.dup, 1) := dk_89 (dk_at dksX0_init_0 8 rfl rfl)
theorem dX0_init_9 : decode cX0_init 9 = .ok (.invokespecial 215, 3) := dk_183 0 215 (dk_at dksX0_init_0 9 rfl rfl)
theorem dX0_init_12 : decode cX0_init 12 = .ok (.putfield 5, 3) := dk_181 0 5 (dk_at dksX0_init_0 12 rfl rfl)
theorem dX0_init_15 : decode cX0_init 15 = .ok (.aload_n 0, 1) := dk_42 (dk_at dksX0_init_0 15 rfl rfl)
theorem dX0_init_16 : decode cX0_init 16 = .ok (.bipush 32, 2) := dk_16 32 (dk_at dksX0_init_0 16 rfl rfl)
theorem dX0_init_18 : decode cX0_init 18 = .ok (.bipush 32, 2) := dk_16 32 (dk_at dksX0_init_0 18 rfl rfl)
theorem dX0_init_20 : decode cX0_init 20 = .ok (.multianewarray 216 2, 4) := by decide +kernel
theorem dX0_init_24 : decode cX0_init 24 = .ok (.putfield 30, 3) := dk_181 0 30 (dk_at dksX0_init_1 0 rfl rfl)
theorem dX0_init_27 : decode cX0_init 27 = .ok (.aload_n 0, 1) := dk_42 (dk_at dksX0_init_1 3 rfl rfl)
theorem dX0_init_28 : decode cX0_init 28 = .ok (.bipush 36, 2) := dk_16 36 (dk_at dksX0_init_1 4 rfl rfl)
theorem dX0_init_30 : decode cX0_init 30 = .ok (.anewarray 16, 3) := dk_189 0 16 (dk_at dksX0_init_1 6 rfl rfl)
theorem dX0_init_33 : decode cX0_init 33 = .ok (.putfield 119, 3) := dk_181 0 119 (dk_at dksX0_init_1 9 rfl rfl)
theorem dX0_init_36 : decode cX0_init 36 = .ok (.aload_n 0, 1) := dk_42 (dk_at dksX0_init_1 12 rfl rfl)
theorem dX0_init_37 : decode cX0_init 37 = .ok (.bipush 12, 2) := dk_16 12 (dk_at dksX0_init_1 13 rfl rfl)
theorem dX0_init_39 : decode cX0_init 39 = .ok (.anewarray 16, 3) := dk_189 0 16 (dk_at dksX0_init_1 15 rfl rfl)
theorem dX0_init_42 : decode cX0_init 42 = .ok (.putfield 217, 3) := dk_181 0 217 (dk_at dksX0_init_1 18 rfl rfl)
theorem dX0_init_45 : decode cX0_init 45 = .ok (.aload_n 0, 1) := dk_42 (dk_at dksX0_init_1 21 rfl rfl)
theorem dX0_init_46 : decode cX0_init 46 = .ok (.new 220, 3) := dk_187 0 220 (dk_at dksX0_init_2 0 rfl rfl)
theorem dX0_init_49 : decode cX0_init 49 = .ok (.dup, 1) := dk_89 (dk_at dksX0_init_2 3 rfl rfl)
theorem dX0_init_50 : decode cX0_init 50 = .ok (.invokespecial 222, 3) := dk_183 0 222 (dk_at dksX0_init_2 4 rfl rfl)
theorem dX0_init_53 : decode cX0_init 53 = .ok (.putfield 223, 3) := dk_181 0 223 (dk_at dksX0_init_2 7 rfl rfl)
theorem dX0_init_56 : decode cX0_init 56 = .ok (.aload_n 0, 1) := dk_42 (dk_at dksX0_init_2 10 rfl rfl)
theorem dX0_init_57 : decode cX0_init 57 = .ok (.new 227, 3) := dk_187 0 227 (dk_at dksX0_init_2 11 rfl rfl)
theorem dX0_init_60 : decode cX0_init 60 = .ok (.dup, 1) := dk_89 (dk_at dksX0_init_2 14 rfl rfl)
theorem dX0_init_61 : decode cX0_init 61 = .ok (.invokespecial 229, 3) := dk_183 0 229 (dk_at dksX0_init_2 15 rfl rfl)
theorem dX0_init_64 : decode cX0_init 64 = .ok (.putfield 230, 3) := dk_181 0 230 (dk_at dksX0_init_2 18 rfl rfl)
theorem dX0_init_67 : decode cX0_init 67 = .ok (.aload_n 0, 1) := dk_42 (dk_at dksX0_init_2 21 rfl rfl)
theorem dX0_init_68 : decode cX0_init 68 = .ok (.new 227, 3) := dk_187 0 227 (dk_at dksX0_init_3 0 rfl rfl)
theorem dX0_init_71 : decode cX0_init 71 = .ok (.dup, 1) := dk_89 (dk_at dksX0_init_3 3 rfl rfl)
theorem dX0_init_72 : decode cX0_init 72 = .ok (.invokespecial 229, 3) := dk_183 0 229 (dk_at dksX0_init_3 4 rfl rfl)
theorem dX0_init_75 : decode cX0_init 75 = .ok (.putfield 233, 3) := dk_181 0 233 (dk_at dksX0_init_3 7 rfl rfl)
theorem dX0_init_78 : decode cX0_init 78 = .ok (.aload_n 0, 1) := dk_42 (dk_at dksX0_init_3 10 rfl rfl)
theorem dX0_init_79 : decode cX0_init 79 = .ok (.new 154, 3) := dk_187 0 154 (dk_at dksX0_init_3 11 rfl rfl)
theorem dX0_init_82 : decode cX0_init 82 = .ok (.dup, 1) := dk_89 (dk_at dksX0_init_3 14 rfl rfl)
theorem dX0_init_83 : decode cX0_init 83 = .ok (.invokespecial 159, 3) := dk_183 0 159 (dk_at dksX0_init_3 15 rfl rfl)
theorem dX0_init_86 : decode cX0_init 86 = .ok (.putfield 236, 3) := dk_181 0 236 (dk_at dksX0_init_3 18 rfl rfl)
theorem dX0_init_89 : decode cX0_init 89 = .ok (.aload_n 0, 1) := dk_42 (dk_at dksX0_init_3 21 rfl rfl)
theorem dX0_init_90 : decode cX0_init 90 = .ok (.new 240, 3) := dk_187 0 240 (dk_at dksX0_init_4 0 rfl rfl)
theorem dX0_init_93 : decode cX0_init 93 = .ok (.dup, 1) := dk_89 (dk_at dksX0_init_4 3 rfl rfl)
theorem dX0_init_94 : decode cX0_init 94 = .ok (.invokespecial 242, 3) := dk_183 0 242 (dk_at dksX0_init_4 4 rfl rfl)
theorem dX0_init_97 : decode cX0_init 97 = .ok (.putfield 243, 3) := dk_181 0 243 (dk_at dksX0_init_4 7 rfl rfl)
theorem dX0_init_100 : decode cX0_init 100 = .ok (.iconst 0, 1) := dk_3 (dk_at dksX0_init_4 10 rfl rfl)
theorem dX0_init_101 : decode cX0_init 101 = .ok (.istore_n 1, 1) := dk_60 (dk_at dksX0_init_4 11 rfl rfl)
theorem dX0_init_102 : decode cX0_init 102 = .ok (.iload_n 1, 1) := dk_27 (dk_at dksX0_init_4 12 rfl rfl)
theorem dX0_init_103 : decode cX0_init 103 = .ok (.bipush 12, 2) := dk_16 12 (dk_at dksX0_init_4 13 rfl rfl)
theorem dX0_init_105 : decode cX0_init 105 = .ok (.if_icmp .ge 23, 3) := dk_162 0 23 (dk_at dksX0_init_4 15 rfl rfl)
theorem dX0_init_108 : decode cX0_init 108 = .ok (.aload_n 0, 1) := dk_42 (dk_at dksX0_init_4 18 rfl rfl)
theorem dX0_init_109 : decode cX0_init 109 = .ok (.getfield 217, 3) := dk_180 0 217 (dk_at dksX0_init_4 19 rfl rfl)
theorem dX0_init_112 : decode cX0_init 112 = .ok (.iload_n 1, 1) := dk_27 (dk_at dksX0_init_4 22 rfl rfl)
theorem dX0_init_113 : decode cX0_init 113 = .ok (.new 16, 3) := dk_187 0 16 (dk_at dksX0_init_5 0 rfl rfl)
theorem dX0_init_116 : decode cX0_init 116 = .ok (.dup, 1) := dk_89 (dk_at dksX0_init_5 3 rfl rfl)
theorem dX0_init_117 : decode cX0_init 117 = .ok (.iconst 1, 1) := dk_4 (dk_at dksX0_init_5 4 rfl rfl)
theorem dX0_init_118 : decode cX0_init 118 = .ok (.invokespecial 247, 3) := dk_183 0 247 (dk_at dksX0_init_5 5 rfl rfl)
theorem dX0_init_121 : decode cX0_init 121 = .ok (.aastore, 1) := dk_83 (dk_at dksX0_init_5 8 rfl rfl)
theorem dX0_init_122 : decode cX0_init 122 = .ok (.iinc 1 1, 3) := dk_132 1 1 (dk_at dksX0_init_5 9 rfl rfl)
theorem dX0_init_125 : decode cX0_init 125 = .ok (.goto (-23), 3) := dk_167 255 233 (dk_at dksX0_init_5 12 rfl rfl)
theorem dX0_init_128 : decode cX0_init 128 = .ok (.return_, 1) := dk_177 (dk_at dksX0_init_5 15 rfl rfl)
abbrev cX0_setNumber : ByteArray := prog_1_method_27_code
def yX0_setNumber : MethodName := ⟨RX0, "setNumber", "(III)I"⟩
def dkwX0_setNumber_2 : List UInt8 := [172]
abbrev dktX0_setNumber_2 : List UInt8 := dkwX0_setNumber_2 ++ []
def dkwX0_setNumber_1 : List UInt8 := [167, 0, 4, 3, 54, 4, 42, 21, 4, 27, 42, 28, 29, 186, 1, 21, 0, 0, 182, 1, 24, 184, 1, 28]
abbrev dktX0_setNumber_1 : List UInt8 := dkwX0_setNumber_1 ++ dktX0_setNumber_2
def dkwX0_setNumber_0 : List UInt8 := [28, 17, 252, 24, 17, 3, 232, 184, 0, 250, 153, 0, 17, 29, 3, 16, 10, 184, 0, 250, 153, 0, 7, 4]
abbrev dktX0_setNumber_0 : List UInt8 := dkwX0_setNumber_0 ++ dktX0_setNumber_1
theorem dksX0_setNumber_0 : cX0_setNumber.data.toList.drop 0 = dktX0_setNumber_0 := by decide +kernel
theorem dksX0_setNumber_1 : cX0_setNumber.data.toList.drop 24 = dktX0_setNumber_1 := dk_seg dksX0_setNumber_0 24 rfl rfl
theorem dksX0_setNumber_2 : cX0_setNumber.data.toList.drop 48 = dktX0_setNumber_2 := dk_seg dksX0_setNumber_1 24 rfl rfl
theorem dX0_setNumber_0 : decode cX0_setNumber 0 = .ok (.iload_n 2, 1) := dk_28 (dk_at dksX0_setNumber_0 0 rfl rfl)
theorem dX0_setNumber_1 : decode cX0_setNumber 1 = .ok (.sipush (-1000), 3) := dk_17 252 24 (dk_at dksX0_setNumber_0 1 rfl rfl)
theorem dX0_setNumber_4 : decode cX0_setNumber 4 = .ok (.sipush 1000, 3) := dk_17 3 232 (dk_at dksX0_setNumber_0 4 rfl rfl)
theorem dX0_setNumber_7 : decode cX0_setNumber 7 = .ok (.invokestatic 250, 3) := dk_184 0 250 (dk_at dksX0_setNumber_0 7 rfl rfl)
theorem dX0_setNumber_10 : decode cX0_setNumber 10 = .ok (.ifCond .eq 17, 3) := dk_153 0 17 (dk_at dksX0_setNumber_0 10 rfl rfl)
theorem dX0_setNumber_13 : decode cX0_setNumber 13 = .ok (.iload_n 3, 1) := dk_29 (dk_at dksX0_setNumber_0 13 rfl rfl)
theorem dX0_setNumber_14 : decode cX0_setNumber 14 = .ok (.iconst 0, 1) := dk_3 (dk_at dksX0_setNumber_0 14 rfl rfl)
theorem dX0_setNumber_15 : decode cX0_setNumber 15 = .ok (.bipush 10, 2) := dk_16 10 (dk_at dksX0_setNumber_0 15 rfl rfl)
theorem dX0_setNumber_17 : decode cX0_setNumber 17 = .ok (.invokestatic 250, 3) := dk_184 0 250 (dk_at dksX0_setNumber_0 17 rfl rfl)
theorem dX0_setNumber_20 : decode cX0_setNumber 20 = .ok (.ifCond .eq 7, 3) := dk_153 0 7 (dk_at dksX0_setNumber_0 20 rfl rfl)
theorem dX0_setNumber_23 : decode cX0_setNumber 23 = .ok (.iconst 1, 1) := dk_4 (dk_at dksX0_setNumber_0 23 rfl rfl)
theorem dX0_setNumber_24 : decode cX0_setNumber 24 = .ok (.goto 4, 3) := dk_167 0 4 (dk_at dksX0_setNumber_1 0 rfl rfl)
theorem dX0_setNumber_27 : decode cX0_setNumber 27 = .ok (.iconst 0, 1) := dk_3 (dk_at dksX0_setNumber_1 3 rfl rfl)
theorem dX0_setNumber_28 : decode cX0_setNumber 28 = .ok (.istore 4, 2) := dk_54 4 (dk_at dksX0_setNumber_1 4 rfl rfl)
theorem dX0_setNumber_30 : decode cX0_setNumber 30 = .ok (.aload_n 0, 1) := dk_42 (dk_at dksX0_setNumber_1 6 rfl rfl)
theorem dX0_setNumber_31 : decode cX0_setNumber 31 = .ok (.iload 4, 2) := dk_21 4 (dk_at dksX0_setNumber_1 7 rfl rfl)
theorem dX0_setNumber_33 : decode cX0_setNumber 33 = .ok (.iload_n 1, 1) := dk_27 (dk_at dksX0_setNumber_1 9 rfl rfl)
theorem dX0_setNumber_34 : decode cX0_setNumber 34 = .ok (.aload_n 0, 1) := dk_42 (dk_at dksX0_setNumber_1 10 rfl rfl)
theorem dX0_setNumber_35 : decode cX0_setNumber 35 = .ok (.iload_n 2, 1) := dk_28 (dk_at dksX0_setNumber_1 11 rfl rfl)
theorem dX0_setNumber_36 : decode cX0_setNumber 36 = .ok (.iload_n 3, 1) := dk_29 (dk_at dksX0_setNumber_1 12 rfl rfl)
theorem dX0_setNumber_37 : decode cX0_setNumber 37 = .ok (.invokedynamic 277, 5) := by decide +kernel
theorem dX0_setNumber_42 : decode cX0_setNumber 42 = .ok (.invokevirtual 280, 3) := dk_182 1 24 (dk_at dksX0_setNumber_1 18 rfl rfl)
theorem dX0_setNumber_45 : decode cX0_setNumber 45 = .ok (.invokestatic 284, 3) := dk_184 1 28 (dk_at dksX0_setNumber_1 21 rfl rfl)
theorem dX0_setNumber_48 : decode cX0_setNumber 48 = .ok (.ireturn, 1) := dk_172 (dk_at dksX0_setNumber_2 0 rfl rfl)
abbrev cX0_isBetween : ByteArray := prog_1_method_1_code
def yX0_isBetween : MethodName := ⟨RX0, "isBetween", "(III)Z"⟩
def dkwX0_isBetween_0 : List UInt8 := [26, 27, 161, 0, 12, 26, 28, 163, 0, 7, 4, 167, 0, 4, 3, 172]
abbrev dktX0_isBetween_0 : List UInt8 := dkwX0_isBetween_0 ++ []
theorem dksX0_isBetween_0 : cX0_isBetween.data.toList.drop 0 = dktX0_isBetween_0 := by decide +kernel
theorem dX0_isBetween_0 : decode cX0_isBetween 0 = .ok (.iload_n 0, 1) := dk_26 (dk_at dksX0_isBetween_0 0 rfl rfl)
theorem dX0_isBetween_1 : decode cX0_isBetween 1 = .ok (.iload_n 1, 1) := dk_27 (dk_at dksX0_isBetween_0 1 rfl rfl)
theorem dX0_isBetween_2 : decode cX0_isBetween 2 = .ok (.if_icmp .lt 12, 3) := dk_161 0 12 (dk_at dksX0_isBetween_0 2 rfl rfl)
theorem dX0_isBetween_5 : decode cX0_isBetween 5 = .ok (.iload_n 0, 1) := dk_26 (dk_at dksX0_isBetween_0 5 rfl rfl)
theorem dX0_isBetween_6 : decode cX0_isBetween 6 = .ok (.iload_n 2, 1) := dk_28 (dk_at dksX0_isBetween_0 6 rfl rfl)
theorem dX0_isBetween_7 : decode cX0_isBetween 7 = .ok (.if_icmp .gt 7, 3) := dk_163 0 7 (dk_at dksX0_isBetween_0 7 rfl rfl)
theorem dX0_isBetween_10 : decode cX0_isBetween 10 = .ok (.iconst 1, 1) := dk_4 (dk_at dksX0_isBetween_0 10 rfl rfl)
theorem dX0_isBetween_11 : decode cX0_isBetween 11 = .ok (.goto 4, 3) := dk_167 0 4 (dk_at dksX0_isBetween_0 11 rfl rfl)
theorem dX0_isBetween_14 : decode cX0_isBetween 14 = .ok (.iconst 0, 1) := dk_3 (dk_at dksX0_isBetween_0 14 rfl rfl)
theorem dX0_isBetween_15 : decode cX0_isBetween 15 = .ok (.ireturn, 1) := dk_172 (dk_at dksX0_isBetween_0 15 rfl rfl)
abbrev cX0_lambda_setNumber_0 : ByteArray := prog_1_method_85_code
def yX0_lambda_setNumber_0 : MethodName := ⟨RX0, "lambda$setNumber$0", "(II)LGameCalculator$Form;"⟩
def dkwX0_lambda_setNumber_0_0 : List UInt8 := [42, 27, 133, 16, 32, 28, 100, 121, 182, 1, 107, 176]
abbrev dktX0_lambda_setNumber_0_0 : List UInt8 := dkwX0_lambda_setNumber_0_0 ++ []
theorem dksX0_lambda_setNumber_0_0 : cX0_lambda_setNumber_0.data.toList.drop 0 = dktX0_lambda_setNumber_0_0 := by decide +kernel
theorem dX0_lambda_setNumber_0_0 : decode cX0_lambda_setNumber_0 0 = .ok (.aload_n 0, 1) := dk_42 (dk_at dksX0_lambda_setNumber_0_0 0 rfl rfl)
theorem dX0_lambda_setNumber_0_1 : decode cX0_lambda_setNumber_0 1 = .ok (.iload_n 1, 1) := dk_27 (dk_at dksX0_lambda_setNumber_0_0 1 rfl rfl)
theorem dX0_lambda_setNumber_0_2 : decode cX0_lambda_setNumber_0 2 = .ok (.i2l, 1) := dk_133 (dk_at dksX0_lambda_setNumber_0_0 2 rfl rfl)
theorem dX0_lambda_setNumber_0_3 : decode cX0_lambda_setNumber_0 3 = .ok (.bipush 32, 2) := dk_16 32 (dk_at dksX0_lambda_setNumber_0_0 3 rfl rfl)
theorem dX0_lambda_setNumber_0_5 : decode cX0_lambda_setNumber_0 5 = .ok (.iload_n 2, 1) := dk_28 (dk_at dksX0_lambda_setNumber_0_0 5 rfl rfl)
theorem dX0_lambda_setNumber_0_6 : decode cX0_lambda_setNumber_0 6 = .ok (.isub, 1) := dk_100 (dk_at dksX0_lambda_setNumber_0_0 6 rfl rfl)
theorem dX0_lambda_setNumber_0_7 : decode cX0_lambda_setNumber_0 7 = .ok (.lshl, 1) := dk_121 (dk_at dksX0_lambda_setNumber_0_0 7 rfl rfl)
theorem dX0_lambda_setNumber_0_8 : decode cX0_lambda_setNumber_0 8 = .ok (.invokevirtual 363, 3) := dk_182 1 107 (dk_at dksX0_lambda_setNumber_0_0 8 rfl rfl)
theorem dX0_lambda_setNumber_0_11 : decode cX0_lambda_setNumber_0 11 = .ok (.areturn, 1) := dk_176 (dk_at dksX0_lambda_setNumber_0_0 11 rfl rfl)
abbrev cX0_numberForm : ByteArray := prog_1_method_16_code
def yX0_numberForm : MethodName := ⟨RX0, "numberForm", "(J)LGameCalculator$Form;"⟩
def dkwX0_numberForm_0 : List UInt8 := [42, 31, 31, 182, 0, 183, 176]
abbrev dktX0_numberForm_0 : List UInt8 := dkwX0_numberForm_0 ++ []
theorem dksX0_numberForm_0 : cX0_numberForm.data.toList.drop 0 = dktX0_numberForm_0 := by decide +kernel
theorem dX0_numberForm_0 : decode cX0_numberForm 0 = .ok (.aload_n 0, 1) := dk_42 (dk_at dksX0_numberForm_0 0 rfl rfl)
theorem dX0_numberForm_1 : decode cX0_numberForm 1 = .ok (.lload_n 1, 1) := dk_31 (dk_at dksX0_numberForm_0 1 rfl rfl)
theorem dX0_numberForm_2 : decode cX0_numberForm 2 = .ok (.lload_n 1, 1) := dk_31 (dk_at dksX0_numberForm_0 2 rfl rfl)
theorem dX0_numberForm_3 : decode cX0_numberForm 3 = .ok (.invokevirtual 183, 3) := dk_182 0 183 (dk_at dksX0_numberForm_0 3 rfl rfl)
theorem dX0_numberForm_6 : decode cX0_numberForm 6 = .ok (.areturn, 1) := dk_176 (dk_at dksX0_numberForm_0 6 rfl rfl)
abbrev cX0_numberBetween : ByteArray := prog_1_method_14_code
def yX0_numberBetween : MethodName := ⟨RX0, "numberBetween", "(JJ)LGameCalculator$Form;"⟩
def dkwX0_numberBetween_4 : List UInt8 := [182, 0, 175, 167, 255, 178, 42, 25, 5, 25, 6, 180, 0, 171, 182, 0, 179, 176]
abbrev dktX0_numberBetween_4 : List UInt8 := dkwX0_numberBetween_4 ++ []
def dkwX0_numberBetween_3 : List UInt8 := [33, 184, 0, 167, 54, 7, 25, 5, 25, 6, 180, 0, 171, 21, 7, 182, 0, 172, 25, 6, 21, 7]
abbrev dktX0_numberBetween_3 : List UInt8 := dkwX0_numberBetween_3 ++ dktX0_numberBetween_4
def dkwX0_numberBetween_2 : List UInt8 := [25, 6, 180, 0, 171, 16, 31, 160, 0, 11, 187, 0, 21, 89, 183, 0, 23, 191, 25, 6, 180, 0, 163, 31]
abbrev dktX0_numberBetween_2 : List UInt8 := dkwX0_numberBetween_2 ++ dktX0_numberBetween_3
def dkwX0_numberBetween_1 : List UInt8 := [33, 184, 0, 167, 154, 0, 19, 25, 6, 180, 0, 163, 117, 33, 117, 31, 117, 184, 0, 167, 153, 0, 55]
abbrev dktX0_numberBetween_1 : List UInt8 := dkwX0_numberBetween_1 ++ dktX0_numberBetween_2
def dkwX0_numberBetween_0 : List UInt8 := [187, 0, 154, 89, 183, 0, 159, 58, 5, 187, 0, 160, 89, 183, 0, 162, 58, 6, 25, 6, 180, 0, 163, 31]
abbrev dktX0_numberBetween_0 : List UInt8 := dkwX0_numberBetween_0 ++ dktX0_numberBetween_1
theorem dksX0_numberBetween_0 : cX0_numberBetween.data.toList.drop 0 = dktX0_numberBetween_0 := by decide +kernel
theorem dksX0_numberBetween_1 : cX0_numberBetween.data.toList.drop 24 = dktX0_numberBetween_1 := dk_seg dksX0_numberBetween_0 24 rfl rfl
theorem dksX0_numberBetween_2 : cX0_numberBetween.data.toList.drop 47 = dktX0_numberBetween_2 := dk_seg dksX0_numberBetween_1 23 rfl rfl
theorem dksX0_numberBetween_3 : cX0_numberBetween.data.toList.drop 71 = dktX0_numberBetween_3 := dk_seg dksX0_numberBetween_2 24 rfl rfl
theorem dksX0_numberBetween_4 : cX0_numberBetween.data.toList.drop 93 = dktX0_numberBetween_4 := dk_seg dksX0_numberBetween_3 22 rfl rfl
theorem dX0_numberBetween_0 : decode cX0_numberBetween 0 = .ok (.new 154, 3) := dk_187 0 154 (dk_at dksX0_numberBetween_0 0 rfl rfl)
theorem dX0_numberBetween_3 : decode cX0_numberBetween 3 = .ok (.dup, 1) := dk_89 (dk_at dksX0_numberBetween_0 3 rfl rfl)
theorem dX0_numberBetween_4 : decode cX0_numberBetween 4 = .ok (.invokespecial 159, 3) := dk_183 0 159 (dk_at dksX0_numberBetween_0 4 rfl rfl)
theorem dX0_numberBetween_7 : decode cX0_numberBetween 7 = .ok (.astore 5, 2) := dk_58 5 (dk_at dksX0_numberBetween_0 7 rfl rfl)
theorem dX0_numberBetween_9 : decode cX0_numberBetween 9 = .ok (.new 160, 3) := dk_187 0 160 (dk_at dksX0_numberBetween_0 9 rfl rfl)
theorem dX0_numberBetween_12 : decode cX0_numberBetween 12 = .ok (.dup, 1) := dk_89 (dk_at dksX0_numberBetween_0 12 rfl rfl)
theorem dX0_numberBetween_13 : decode cX0_numberBetween 13 = .ok (.invokespecial 162, 3) := dk_183 0 162 (dk_at dksX0_numberBetween_0 13 rfl rfl)
theorem dX0_numberBetween_16 : decode cX0_numberBetween 16 = .ok (.astore 6, 2) := dk_58 6 (dk_at dksX0_numberBetween_0 16 rfl rfl)
theorem dX0_numberBetween_18 : decode cX0_numberBetween 18 = .ok (.aload 6, 2) := dk_25 6 (dk_at dksX0_numberBetween_0 18 rfl rfl)
theorem dX0_numberBetween_20 : decode cX0_numberBetween 20 = .ok (.getfield 163, 3) := dk_180 0 163 (dk_at dksX0_numberBetween_0 20 rfl rfl)
theorem dX0_numberBetween_23 : decode cX0_numberBetween 23 = .ok (.lload_n 1, 1) := dk_31 (dk_at dksX0_numberBetween_0 23 rfl rfl)
theorem dX0_numberBetween_24 : decode cX0_numberBetween 24 = .ok (.lload_n 3, 1) := dk_33 (dk_at dksX0_numberBetween_1 0 rfl rfl)
theorem dX0_numberBetween_25 : decode cX0_numberBetween 25 = .ok (.invokestatic 167, 3) := dk_184 0 167 (dk_at dksX0_numberBetween_1 1 rfl rfl)
theorem dX0_numberBetween_28 : decode cX0_numberBetween 28 = .ok (.ifCond .ne 19, 3) := dk_154 0 19 (dk_at dksX0_numberBetween_1 4 rfl rfl)
theorem dX0_numberBetween_31 : decode cX0_numberBetween 31 = .ok (.aload 6, 2) := dk_25 6 (dk_at dksX0_numberBetween_1 7 rfl rfl)
theorem dX0_numberBetween_33 : decode cX0_numberBetween 33 = .ok (.getfield 163, 3) := dk_180 0 163 (dk_at dksX0_numberBetween_1 9 rfl rfl)
theorem dX0_numberBetween_36 : decode cX0_numberBetween 36 = .ok (.lneg, 1) := dk_117 (dk_at dksX0_numberBetween_1 12 rfl rfl)
theorem dX0_numberBetween_37 : decode cX0_numberBetween 37 = .ok (.lload_n 3, 1) := dk_33 (dk_at dksX0_numberBetween_1 13 rfl rfl)
theorem dX0_numberBetween_38 : decode cX0_numberBetween 38 = .ok (.lneg, 1) := dk_117 (dk_at dksX0_numberBetween_1 14 rfl rfl)
theorem dX0_numberBetween_39 : decode cX0_numberBetween 39 = .ok (.lload_n 1, 1) := dk_31 (dk_at dksX0_numberBetween_1 15 rfl rfl)
theorem dX0_numberBetween_40 : decode cX0_numberBetween 40 = .ok (.lneg, 1) := dk_117 (dk_at dksX0_numberBetween_1 16 rfl rfl)
theorem dX0_numberBetween_41 : decode cX0_numberBetween 41 = .ok (.invokestatic 167, 3) := dk_184 0 167 (dk_at dksX0_numberBetween_1 17 rfl rfl)
theorem dX0_numberBetween_44 : decode cX0_numberBetween 44 = .ok (.ifCond .eq 55, 3) := dk_153 0 55 (dk_at dksX0_numberBetween_1 20 rfl rfl)
theorem dX0_numberBetween_47 : decode cX0_numberBetween 47 = .ok (.aload 6, 2) := dk_25 6 (dk_at dksX0_numberBetween_2 0 rfl rfl)
theorem dX0_numberBetween_49 : decode cX0_numberBetween 49 = .ok (.getfield 171, 3) := dk_180 0 171 (dk_at dksX0_numberBetween_2 2 rfl rfl)
theorem dX0_numberBetween_52 : decode cX0_numberBetween 52 = .ok (.bipush 31, 2) := dk_16 31 (dk_at dksX0_numberBetween_2 5 rfl rfl)
theorem dX0_numberBetween_54 : decode cX0_numberBetween 54 = .ok (.if_icmp .ne 11, 3) := dk_160 0 11 (dk_at dksX0_numberBetween_2 7 rfl rfl)
theorem dX0_numberBetween_57 : decode cX0_numberBetween 57 = .ok (.new 21, 3) := dk_187 0 21 (dk_at dksX0_numberBetween_2 10 rfl rfl)
theorem dX0_numberBetween_60 : decode cX0_numberBetween 60 = .ok (.dup, 1) := dk_89 (dk_at dksX0_numberBetween_2 13 rfl rfl)
theorem dX0_numberBetween_61 : decode cX0_numberBetween 61 = .ok (.invokespecial 23, 3) := dk_183 0 23 (dk_at dksX0_numberBetween_2 14 rfl rfl)
theorem dX0_numberBetween_64 : decode cX0_numberBetween 64 = .ok (.athrow, 1) := dk_191 (dk_at dksX0_numberBetween_2 17 rfl rfl)
theorem dX0_numberBetween_65 : decode cX0_numberBetween 65 = .ok (.aload 6, 2) := dk_25 6 (dk_at dksX0_numberBetween_2 18 rfl rfl)
theorem dX0_numberBetween_67 : decode cX0_numberBetween 67 = .ok (.getfield 163, 3) := dk_180 0 163 (dk_at dksX0_numberBetween_2 20 rfl rfl)
theorem dX0_numberBetween_70 : decode cX0_numberBetween 70 = .ok (.lload_n 1, 1) := dk_31 (dk_at dksX0_numberBetween_2 23 rfl rfl)
theorem dX0_numberBetween_71 : decode cX0_numberBetween 71 = .ok (.lload_n 3, 1) := dk_33 (dk_at dksX0_numberBetween_3 0 rfl rfl)
theorem dX0_numberBetween_72 : decode cX0_numberBetween 72 = .ok (.invokestatic 167, 3) := dk_184 0 167 (dk_at dksX0_numberBetween_3 1 rfl rfl)
theorem dX0_numberBetween_75 : decode cX0_numberBetween 75 = .ok (.istore 7, 2) := dk_54 7 (dk_at dksX0_numberBetween_3 4 rfl rfl)
theorem dX0_numberBetween_77 : decode cX0_numberBetween 77 = .ok (.aload 5, 2) := dk_25 5 (dk_at dksX0_numberBetween_3 6 rfl rfl)
theorem dX0_numberBetween_79 : decode cX0_numberBetween 79 = .ok (.aload 6, 2) := dk_25 6 (dk_at dksX0_numberBetween_3 8 rfl rfl)
theorem dX0_numberBetween_81 : decode cX0_numberBetween 81 = .ok (.getfield 171, 3) := dk_180 0 171 (dk_at dksX0_numberBetween_3 10 rfl rfl)
theorem dX0_numberBetween_84 : decode cX0_numberBetween 84 = .ok (.iload 7, 2) := dk_21 7 (dk_at dksX0_numberBetween_3 13 rfl rfl)
theorem dX0_numberBetween_86 : decode cX0_numberBetween 86 = .ok (.invokevirtual 172, 3) := dk_182 0 172 (dk_at dksX0_numberBetween_3 15 rfl rfl)
theorem dX0_numberBetween_89 : decode cX0_numberBetween 89 = .ok (.aload 6, 2) := dk_25 6 (dk_at dksX0_numberBetween_3 18 rfl rfl)
theorem dX0_numberBetween_91 : decode cX0_numberBetween 91 = .ok (.iload 7, 2) := dk_21 7 (dk_at dksX0_numberBetween_3 20 rfl rfl)
theorem dX0_numberBetween_93 : decode cX0_numberBetween 93 = .ok (.invokevirtual 175, 3) := dk_182 0 175 (dk_at dksX0_numberBetween_4 0 rfl rfl)
theorem dX0_numberBetween_96 : decode cX0_numberBetween 96 = .ok (.goto (-78), 3) := dk_167 255 178 (dk_at dksX0_numberBetween_4 3 rfl rfl)
theorem dX0_numberBetween_99 : decode cX0_numberBetween 99 = .ok (.aload_n 0, 1) := dk_42 (dk_at dksX0_numberBetween_4 6 rfl rfl)
theorem dX0_numberBetween_100 : decode cX0_numberBetween 100 = .ok (.aload 5, 2) := dk_25 5 (dk_at dksX0_numberBetween_4 7 rfl rfl)
theorem dX0_numberBetween_102 : decode cX0_numberBetween 102 = .ok (.aload 6, 2) := dk_25 6 (dk_at dksX0_numberBetween_4 9 rfl rfl)
theorem dX0_numberBetween_104 : decode cX0_numberBetween 104 = .ok (.getfield 171, 3) := dk_180 0 171 (dk_at dksX0_numberBetween_4 11 rfl rfl)
theorem dX0_numberBetween_107 : decode cX0_numberBetween 107 = .ok (.invokevirtual 179, 3) := dk_182 0 179 (dk_at dksX0_numberBetween_4 14 rfl rfl)
theorem dX0_numberBetween_110 : decode cX0_numberBetween 110 = .ok (.areturn, 1) := dk_176 (dk_at dksX0_numberBetween_4 17 rfl rfl)
abbrev cX0_isBelow : ByteArray := prog_1_method_15_code
def yX0_isBelow : MethodName := ⟨RX0, "isBelow", "(JJJ)Z"⟩
def dkwX0_isBelow_1 : List UInt8 := [157, 0, 7, 4, 167, 0, 4, 3, 172]
abbrev dktX0_isBelow_1 : List UInt8 := dkwX0_isBelow_1 ++ []
def dkwX0_isBelow_0 : List UInt8 := [32, 22, 4, 148, 154, 0, 17, 30, 32, 148, 156, 0, 7, 4, 167, 0, 18, 3, 167, 0, 14, 30, 32, 148]
abbrev dktX0_isBelow_0 : List UInt8 := dkwX0_isBelow_0 ++ dktX0_isBelow_1
theorem dksX0_isBelow_0 : cX0_isBelow.data.toList.drop 0 = dktX0_isBelow_0 := by decide +kernel
theorem dksX0_isBelow_1 : cX0_isBelow.data.toList.drop 24 = dktX0_isBelow_1 := dk_seg dksX0_isBelow_0 24 rfl rfl
theorem dX0_isBelow_0 : decode cX0_isBelow 0 = .ok (.lload_n 2, 1) := dk_32 (dk_at dksX0_isBelow_0 0 rfl rfl)
theorem dX0_isBelow_1 : decode cX0_isBelow 1 = .ok (.lload 4, 2) := dk_22 4 (dk_at dksX0_isBelow_0 1 rfl rfl)
theorem dX0_isBelow_3 : decode cX0_isBelow 3 = .ok (.lcmp, 1) := dk_148 (dk_at dksX0_isBelow_0 3 rfl rfl)
theorem dX0_isBelow_4 : decode cX0_isBelow 4 = .ok (.ifCond .ne 17, 3) := dk_154 0 17 (dk_at dksX0_isBelow_0 4 rfl rfl)
theorem dX0_isBelow_7 : decode cX0_isBelow 7 = .ok (.lload_n 0, 1) := dk_30 (dk_at dksX0_isBelow_0 7 rfl rfl)
theorem dX0_isBelow_8 : decode cX0_isBelow 8 = .ok (.lload_n 2, 1) := dk_32 (dk_at dksX0_isBelow_0 8 rfl rfl)
theorem dX0_isBelow_9 : decode cX0_isBelow 9 = .ok (.lcmp, 1) := dk_148 (dk_at dksX0_isBelow_0 9 rfl rfl)
theorem dX0_isBelow_10 : decode cX0_isBelow 10 = .ok (.ifCond .ge 7, 3) := dk_156 0 7 (dk_at dksX0_isBelow_0 10 rfl rfl)
theorem dX0_isBelow_13 : decode cX0_isBelow 13 = .ok (.iconst 1, 1) := dk_4 (dk_at dksX0_isBelow_0 13 rfl rfl)
theorem dX0_isBelow_14 : decode cX0_isBelow 14 = .ok (.goto 18, 3) := dk_167 0 18 (dk_at dksX0_isBelow_0 14 rfl rfl)
theorem dX0_isBelow_17 : decode cX0_isBelow 17 = .ok (.iconst 0, 1) := dk_3 (dk_at dksX0_isBelow_0 17 rfl rfl)
theorem dX0_isBelow_18 : decode cX0_isBelow 18 = .ok (.goto 14, 3) := dk_167 0 14 (dk_at dksX0_isBelow_0 18 rfl rfl)
theorem dX0_isBelow_21 : decode cX0_isBelow 21 = .ok (.lload_n 0, 1) := dk_30 (dk_at dksX0_isBelow_0 21 rfl rfl)
theorem dX0_isBelow_22 : decode cX0_isBelow 22 = .ok (.lload_n 2, 1) := dk_32 (dk_at dksX0_isBelow_0 22 rfl rfl)
theorem dX0_isBelow_23 : decode cX0_isBelow 23 = .ok (.lcmp, 1) := dk_148 (dk_at dksX0_isBelow_0 23 rfl rfl)
theorem dX0_isBelow_24 : decode cX0_isBelow 24 = .ok (.ifCond .gt 7, 3) := dk_157 0 7 (dk_at dksX0_isBelow_1 0 rfl rfl)
theorem dX0_isBelow_27 : decode cX0_isBelow 27 = .ok (.iconst 1, 1) := dk_4 (dk_at dksX0_isBelow_1 3 rfl rfl)
theorem dX0_isBelow_28 : decode cX0_isBelow 28 = .ok (.goto 4, 3) := dk_167 0 4 (dk_at dksX0_isBelow_1 4 rfl rfl)
theorem dX0_isBelow_31 : decode cX0_isBelow 31 = .ok (.iconst 0, 1) := dk_3 (dk_at dksX0_isBelow_1 7 rfl rfl)
theorem dX0_isBelow_32 : decode cX0_isBelow 32 = .ok (.ireturn, 1) := dk_172 (dk_at dksX0_isBelow_1 8 rfl rfl)
abbrev cX0_numberForm_2 : ByteArray := prog_1_method_13_code
def yX0_numberForm_2 : MethodName := ⟨RX0, "numberForm", "(Ljava/util/BitSet;I)LGameCalculator$Form;"⟩
def dkwX0_numberForm_2_5 : List UInt8 := [25, 6, 182, 0, 42, 176]
abbrev dktX0_numberForm_2_5 : List UInt8 := dkwX0_numberForm_2_5 ++ []
def dkwX0_numberForm_2_4 : List UInt8 := [182, 0, 150, 58, 6, 132, 7, 1, 167, 255, 202, 45, 25, 4, 182, 0, 115, 45, 25, 5, 182, 0, 115, 45]
abbrev dktX0_numberForm_2_4 : List UInt8 := dkwX0_numberForm_2_4 ++ dktX0_numberForm_2_5
def dkwX0_numberForm_2_3 : List UInt8 := [58, 8, 25, 8, 185, 0, 158, 1, 0, 25, 8, 25, 6, 185, 0, 112, 2, 0, 87, 45, 25, 4, 25, 5]
abbrev dktX0_numberForm_2_3 : List UInt8 := dkwX0_numberForm_2_3 ++ dktX0_numberForm_2_4
def dkwX0_numberForm_2_2 : List UInt8 := [54, 7, 21, 7, 28, 162, 0, 54, 43, 21, 7, 182, 0, 153, 153, 0, 8, 25, 4, 167, 0, 5, 25, 5]
abbrev dktX0_numberForm_2_2 : List UInt8 := dkwX0_numberForm_2_2 ++ dktX0_numberForm_2_3
def dkwX0_numberForm_2_1 : List UInt8 := [182, 0, 46, 58, 4, 45, 182, 0, 46, 58, 5, 45, 184, 0, 147, 184, 0, 147, 182, 0, 150, 58, 6, 3]
abbrev dktX0_numberForm_2_1 : List UInt8 := dkwX0_numberForm_2_1 ++ dktX0_numberForm_2_2
def dkwX0_numberForm_2_0 : List UInt8 := [28, 4, 96, 16, 32, 164, 0, 11, 187, 0, 21, 89, 183, 0, 23, 191, 42, 182, 0, 26, 78, 45]
abbrev dktX0_numberForm_2_0 : List UInt8 := dkwX0_numberForm_2_0 ++ dktX0_numberForm_2_1
theorem dksX0_numberForm_2_0 : cX0_numberForm_2.data.toList.drop 0 = dktX0_numberForm_2_0 := by decide +kernel
theorem dksX0_numberForm_2_1 : cX0_numberForm_2.data.toList.drop 22 = dktX0_numberForm_2_1 := dk_seg dksX0_numberForm_2_0 22 rfl rfl
theorem dksX0_numberForm_2_2 : cX0_numberForm_2.data.toList.drop 46 = dktX0_numberForm_2_2 := dk_seg dksX0_numberForm_2_1 24 rfl rfl
theorem dksX0_numberForm_2_3 : cX0_numberForm_2.data.toList.drop 70 = dktX0_numberForm_2_3 := dk_seg dksX0_numberForm_2_2 24 rfl rfl
theorem dksX0_numberForm_2_4 : cX0_numberForm_2.data.toList.drop 94 = dktX0_numberForm_2_4 := dk_seg dksX0_numberForm_2_3 24 rfl rfl
theorem dksX0_numberForm_2_5 : cX0_numberForm_2.data.toList.drop 118 = dktX0_numberForm_2_5 := dk_seg dksX0_numberForm_2_4 24 rfl rfl
theorem dX0_numberForm_2_0 : decode cX0_numberForm_2 0 = .ok (.iload_n 2, 1) := dk_28 (dk_at dksX0_numberForm_2_0 0 rfl rfl)
theorem dX0_numberForm_2_1 : decode cX0_numberForm_2 1 = .ok (.iconst 1, 1) := dk_4 (dk_at dksX0_numberForm_2_0 1 rfl rfl)
theorem dX0_numberForm_2_2 : decode cX0_numberForm_2 2 = .ok (.iadd, 1) := dk_96 (dk_at dksX0_numberForm_2_0 2 rfl rfl)
theorem dX0_numberForm_2_3 : decode cX0_numberForm_2 3 = .ok (.bipush 32, 2) := dk_16 32 (dk_at dksX0_numberForm_2_0 3 rfl rfl)
theorem dX0_numberForm_2_5 : decode cX0_numberForm_2 5 = .ok (.if_icmp .le 11, 3) := dk_164 0 11 (dk_at dksX0_numberForm_2_0 5 rfl rfl)
theorem dX0_numberForm_2_8 : decode cX0_numberForm_2 8 = .ok (.new 21, 3) := dk_187 0 21 (dk_at dksX0_numberForm_2_0 8 rfl rfl)
theorem dX0_numberForm_2_11 : decode cX0_numberForm_2 11 = .ok (.dup, 1) := dk_89 (dk_at dksX0_numberForm_2_0 11 rfl rfl)
theorem dX0_numberForm_2_12 : decode cX0_numberForm_2 12 = .ok (.invokespecial 23, 3) := dk_183 0 23 (dk_at dksX0_numberForm_2_0 12 rfl rfl)
theorem dX0_numberForm_2_15 : decode cX0_numberForm_2 15 = .ok (.athrow, 1) := dk_191 (dk_at dksX0_numberForm_2_0 15 rfl rfl)
theorem dX0_numberForm_2_16 : decode cX0_numberForm_2 16 = .ok (.aload_n 0, 1) := dk_42 (dk_at dksX0_numberForm_2_0 16 rfl rfl)
theorem dX0_numberForm_2_17 : decode cX0_numberForm_2 17 = .ok (.invokevirtual 26, 3) := dk_182 0 26 (dk_at dksX0_numberForm_2_0 17 rfl rfl)
theorem dX0_numberForm_2_20 : decode cX0_numberForm_2 20 = .ok (.astore_n 3, 1) := dk_78 (dk_at dksX0_numberForm_2_0 20 rfl rfl)
theorem dX0_numberForm_2_21 : decode cX0_numberForm_2 21 = .ok (.aload_n 3, 1) := dk_45 (dk_at dksX0_numberForm_2_0 21 rfl rfl)
theorem dX0_numberForm_2_22 : decode cX0_numberForm_2 22 = .ok (.invokevirtual 46, 3) := dk_182 0 46 (dk_at dksX0_numberForm_2_1 0 rfl rfl)
theorem dX0_numberForm_2_25 : decode cX0_numberForm_2 25 = .ok (.astore 4, 2) := dk_58 4 (dk_at dksX0_numberForm_2_1 3 rfl rfl)
theorem dX0_numberForm_2_27 : decode cX0_numberForm_2 27 = .ok (.aload_n 3, 1) := dk_45 (dk_at dksX0_numberForm_2_1 5 rfl rfl)
theorem dX0_numberForm_2_28 : decode cX0_numberForm_2 28 = .ok (.invokevirtual 46, 3) := dk_182 0 46 (dk_at dksX0_numberForm_2_1 6 rfl rfl)
theorem dX0_numberForm_2_31 : decode cX0_numberForm_2 31 = .ok (.astore 5, 2) := dk_58 5 (dk_at dksX0_numberForm_2_1 9 rfl rfl)
theorem dX0_numberForm_2_33 : decode cX0_numberForm_2 33 = .ok (.aload_n 3, 1) := dk_45 (dk_at dksX0_numberForm_2_1 11 rfl rfl)
theorem dX0_numberForm_2_34 : decode cX0_numberForm_2 34 = .ok (.invokestatic 147, 3) := dk_184 0 147 (dk_at dksX0_numberForm_2_1 12 rfl rfl)
theorem dX0_numberForm_2_37 : decode cX0_numberForm_2 37 = .ok (.invokestatic 147, 3) := dk_184 0 147 (dk_at dksX0_numberForm_2_1 15 rfl rfl)
theorem dX0_numberForm_2_40 : decode cX0_numberForm_2 40 = .ok (.invokevirtual 150, 3) := dk_182 0 150 (dk_at dksX0_numberForm_2_1 18 rfl rfl)
theorem dX0_numberForm_2_43 : decode cX0_numberForm_2 43 = .ok (.astore 6, 2) := dk_58 6 (dk_at dksX0_numberForm_2_1 21 rfl rfl)
theorem dX0_numberForm_2_45 : decode cX0_numberForm_2 45 = .ok (.iconst 0, 1) := dk_3 (dk_at dksX0_numberForm_2_1 23 rfl rfl)
theorem dX0_numberForm_2_46 : decode cX0_numberForm_2 46 = .ok (.istore 7, 2) := dk_54 7 (dk_at dksX0_numberForm_2_2 0 rfl rfl)
theorem dX0_numberForm_2_48 : decode cX0_numberForm_2 48 = .ok (.iload 7, 2) := dk_21 7 (dk_at dksX0_numberForm_2_2 2 rfl rfl)
theorem dX0_numberForm_2_50 : decode cX0_numberForm_2 50 = .ok (.iload_n 2, 1) := dk_28 (dk_at dksX0_numberForm_2_2 4 rfl rfl)
theorem dX0_numberForm_2_51 : decode cX0_numberForm_2 51 = .ok (.if_icmp .ge 54, 3) := dk_162 0 54 (dk_at dksX0_numberForm_2_2 5 rfl rfl)
theorem dX0_numberForm_2_54 : decode cX0_numberForm_2 54 = .ok (.aload_n 1, 1) := dk_43 (dk_at dksX0_numberForm_2_2 8 rfl rfl)
theorem dX0_numberForm_2_55 : decode cX0_numberForm_2 55 = .ok (.iload 7, 2) := dk_21 7 (dk_at dksX0_numberForm_2_2 9 rfl rfl)
theorem dX0_numberForm_2_57 : decode cX0_numberForm_2 57 = .ok (.invokevirtual 153, 3) := dk_182 0 153 (dk_at dksX0_numberForm_2_2 11 rfl rfl)
theorem dX0_numberForm_2_60 : decode cX0_numberForm_2 60 = .ok (.ifCond .eq 8, 3) := dk_153 0 8 (dk_at dksX0_numberForm_2_2 14 rfl rfl)
theorem dX0_numberForm_2_63 : decode cX0_numberForm_2 63 = .ok (.aload 4, 2) := dk_25 4 (dk_at dksX0_numberForm_2_2 17 rfl rfl)
theorem dX0_numberForm_2_65 : decode cX0_numberForm_2 65 = .ok (.goto 5, 3) := dk_167 0 5 (dk_at dksX0_numberForm_2_2 19 rfl rfl)
theorem dX0_numberForm_2_68 : decode cX0_numberForm_2 68 = .ok (.aload 5, 2) := dk_25 5 (dk_at dksX0_numberForm_2_2 22 rfl rfl)
theorem dX0_numberForm_2_70 : decode cX0_numberForm_2 70 = .ok (.astore 8, 2) := dk_58 8 (dk_at dksX0_numberForm_2_3 0 rfl rfl)
theorem dX0_numberForm_2_72 : decode cX0_numberForm_2 72 = .ok (.aload 8, 2) := dk_25 8 (dk_at dksX0_numberForm_2_3 2 rfl rfl)
theorem dX0_numberForm_2_74 : decode cX0_numberForm_2 74 = .ok (.invokeinterface 158 1, 5) := by decide +kernel
theorem dX0_numberForm_2_79 : decode cX0_numberForm_2 79 = .ok (.aload 8, 2) := dk_25 8 (dk_at dksX0_numberForm_2_3 9 rfl rfl)
theorem dX0_numberForm_2_81 : decode cX0_numberForm_2 81 = .ok (.aload 6, 2) := dk_25 6 (dk_at dksX0_numberForm_2_3 11 rfl rfl)
theorem dX0_numberForm_2_83 : decode cX0_numberForm_2 83 = .ok (.invokeinterface 112 2, 5) := by decide +kernel
theorem dX0_numberForm_2_88 : decode cX0_numberForm_2 88 = .ok (.pop, 1) := dk_87 (dk_at dksX0_numberForm_2_3 18 rfl rfl)
theorem dX0_numberForm_2_89 : decode cX0_numberForm_2 89 = .ok (.aload_n 3, 1) := dk_45 (dk_at dksX0_numberForm_2_3 19 rfl rfl)
theorem dX0_numberForm_2_90 : decode cX0_numberForm_2 90 = .ok (.aload 4, 2) := dk_25 4 (dk_at dksX0_numberForm_2_3 20 rfl rfl)
theorem dX0_numberForm_2_92 : decode cX0_numberForm_2 92 = .ok (.aload 5, 2) := dk_25 5 (dk_at dksX0_numberForm_2_3 22 rfl rfl)
theorem dX0_numberForm_2_94 : decode cX0_numberForm_2 94 = .ok (.invokevirtual 150, 3) := dk_182 0 150 (dk_at dksX0_numberForm_2_4 0 rfl rfl)
theorem dX0_numberForm_2_97 : decode cX0_numberForm_2 97 = .ok (.astore 6, 2) := dk_58 6 (dk_at dksX0_numberForm_2_4 3 rfl rfl)
theorem dX0_numberForm_2_99 : decode cX0_numberForm_2 99 = .ok (.iinc 7 1, 3) := dk_132 7 1 (dk_at dksX0_numberForm_2_4 5 rfl rfl)
theorem dX0_numberForm_2_102 : decode cX0_numberForm_2 102 = .ok (.goto (-54), 3) := dk_167 255 202 (dk_at dksX0_numberForm_2_4 8 rfl rfl)
theorem dX0_numberForm_2_105 : decode cX0_numberForm_2 105 = .ok (.aload_n 3, 1) := dk_45 (dk_at dksX0_numberForm_2_4 11 rfl rfl)
theorem dX0_numberForm_2_106 : decode cX0_numberForm_2 106 = .ok (.aload 4, 2) := dk_25 4 (dk_at dksX0_numberForm_2_4 12 rfl rfl)
theorem dX0_numberForm_2_108 : decode cX0_numberForm_2 108 = .ok (.invokevirtual 115, 3) := dk_182 0 115 (dk_at dksX0_numberForm_2_4 14 rfl rfl)
theorem dX0_numberForm_2_111 : decode cX0_numberForm_2 111 = .ok (.aload_n 3, 1) := dk_45 (dk_at dksX0_numberForm_2_4 17 rfl rfl)
theorem dX0_numberForm_2_112 : decode cX0_numberForm_2 112 = .ok (.aload 5, 2) := dk_25 5 (dk_at dksX0_numberForm_2_4 18 rfl rfl)
theorem dX0_numberForm_2_114 : decode cX0_numberForm_2 114 = .ok (.invokevirtual 115, 3) := dk_182 0 115 (dk_at dksX0_numberForm_2_4 20 rfl rfl)
theorem dX0_numberForm_2_117 : decode cX0_numberForm_2 117 = .ok (.aload_n 3, 1) := dk_45 (dk_at dksX0_numberForm_2_4 23 rfl rfl)
theorem dX0_numberForm_2_118 : decode cX0_numberForm_2 118 = .ok (.aload 6, 2) := dk_25 6 (dk_at dksX0_numberForm_2_5 0 rfl rfl)
theorem dX0_numberForm_2_120 : decode cX0_numberForm_2 120 = .ok (.invokevirtual 42, 3) := dk_182 0 42 (dk_at dksX0_numberForm_2_5 2 rfl rfl)
theorem dX0_numberForm_2_123 : decode cX0_numberForm_2 123 = .ok (.areturn, 1) := dk_176 (dk_at dksX0_numberForm_2_5 5 rfl rfl)
abbrev cX0_emptyArena : ByteArray := prog_1_method_2_code
def yX0_emptyArena : MethodName := ⟨RX0, "emptyArena", "()LGameCalculator$Arena;"⟩
def dkwX0_emptyArena_0 : List UInt8 := [42, 180, 0, 5, 182, 0, 9, 42, 180, 0, 5, 176]
abbrev dktX0_emptyArena_0 : List UInt8 := dkwX0_emptyArena_0 ++ []
theorem dksX0_emptyArena_0 : cX0_emptyArena.data.toList.drop 0 = dktX0_emptyArena_0 := by decide +kernel
theorem dX0_emptyArena_0 : decode cX0_emptyArena 0 = .ok (.aload_n 0, 1) := dk_42 (dk_at dksX0_emptyArena_0 0 rfl rfl)
theorem dX0_emptyArena_1 : decode cX0_emptyArena 1 = .ok (.getfield 5, 3) := dk_180 0 5 (dk_at dksX0_emptyArena_0 1 rfl rfl)
theorem dX0_emptyArena_4 : decode cX0_emptyArena 4 = .ok (.invokevirtual 9, 3) := dk_182 0 9 (dk_at dksX0_emptyArena_0 4 rfl rfl)
theorem dX0_emptyArena_7 : decode cX0_emptyArena 7 = .ok (.aload_n 0, 1) := dk_42 (dk_at dksX0_emptyArena_0 7 rfl rfl)
theorem dX0_emptyArena_8 : decode cX0_emptyArena 8 = .ok (.getfield 5, 3) := dk_180 0 5 (dk_at dksX0_emptyArena_0 8 rfl rfl)
theorem dX0_emptyArena_11 : decode cX0_emptyArena 11 = .ok (.areturn, 1) := dk_176 (dk_at dksX0_emptyArena_0 11 rfl rfl)
abbrev cX0_put : ByteArray := prog_1_method_25_code
def yX0_put : MethodName := ⟨RX0, "put", "(ZILGameCalculator$Maker;)I"⟩
def dkwX0_put_3 : List UInt8 := [192, 1, 13, 182, 1, 17, 42, 180, 0, 217, 28, 25, 4, 83, 25, 4, 180, 0, 15, 172]
abbrev dktX0_put_3 : List UInt8 := dkwX0_put_3 ++ []
def dkwX0_put_2 : List UInt8 := [180, 0, 223, 182, 1, 9, 192, 1, 13, 58, 5, 42, 180, 0, 223, 42, 180, 0, 217, 182, 1, 14]
abbrev dktX0_put_2 : List UInt8 := dkwX0_put_2 ++ dktX0_put_3
def dkwX0_put_1 : List UInt8 := [167, 0, 9, 58, 5, 19, 1, 7, 172, 42, 180, 0, 223, 182, 1, 8, 16, 8, 160, 0, 15, 42]
abbrev dktX0_put_1 : List UInt8 := dkwX0_put_1 ++ dktX0_put_2
def dkwX0_put_0 : List UInt8 := [27, 153, 0, 10, 28, 184, 0, 254, 154, 0, 7, 19, 1, 1, 172, 45, 185, 1, 2, 1, 0, 58, 4]
abbrev dktX0_put_0 : List UInt8 := dkwX0_put_0 ++ dktX0_put_1
theorem dksX0_put_0 : cX0_put.data.toList.drop 0 = dktX0_put_0 := by decide +kernel
theorem dksX0_put_1 : cX0_put.data.toList.drop 23 = dktX0_put_1 := dk_seg dksX0_put_0 23 rfl rfl
theorem dksX0_put_2 : cX0_put.data.toList.drop 45 = dktX0_put_2 := dk_seg dksX0_put_1 22 rfl rfl
theorem dksX0_put_3 : cX0_put.data.toList.drop 67 = dktX0_put_3 := dk_seg dksX0_put_2 22 rfl rfl
theorem dX0_put_0 : decode cX0_put 0 = .ok (.iload_n 1, 1) := dk_27 (dk_at dksX0_put_0 0 rfl rfl)
theorem dX0_put_1 : decode cX0_put 1 = .ok (.ifCond .eq 10, 3) := dk_153 0 10 (dk_at dksX0_put_0 1 rfl rfl)
theorem dX0_put_4 : decode cX0_put 4 = .ok (.iload_n 2, 1) := dk_28 (dk_at dksX0_put_0 4 rfl rfl)
theorem dX0_put_5 : decode cX0_put 5 = .ok (.invokestatic 254, 3) := dk_184 0 254 (dk_at dksX0_put_0 5 rfl rfl)
theorem dX0_put_8 : decode cX0_put 8 = .ok (.ifCond .ne 7, 3) := dk_154 0 7 (dk_at dksX0_put_0 8 rfl rfl)
theorem dX0_put_11 : decode cX0_put 11 = .ok (.ldc_w 257, 3) := dk_19 1 1 (dk_at dksX0_put_0 11 rfl rfl)
theorem dX0_put_14 : decode cX0_put 14 = .ok (.ireturn, 1) := dk_172 (dk_at dksX0_put_0 14 rfl rfl)
theorem dX0_put_15 : decode cX0_put 15 = .ok (.aload_n 3, 1) := dk_45 (dk_at dksX0_put_0 15 rfl rfl)
theorem dX0_put_16 : decode cX0_put 16 = .ok (.invokeinterface 258 1, 5) := by decide +kernel
theorem dX0_put_21 : decode cX0_put 21 = .ok (.astore 4, 2) := dk_58 4 (dk_at dksX0_put_0 21 rfl rfl)
theorem dX0_put_23 : decode cX0_put 23 = .ok (.goto 9, 3) := dk_167 0 9 (dk_at dksX0_put_1 0 rfl rfl)
theorem dX0_put_26 : decode cX0_put 26 = .ok (.astore 5, 2) := dk_58 5 (dk_at dksX0_put_1 3 rfl rfl)
theorem dX0_put_28 : decode cX0_put 28 = .ok (.ldc_w 263, 3) := dk_19 1 7 (dk_at dksX0_put_1 5 rfl rfl)
theorem dX0_put_31 : decode cX0_put 31 = .ok (.ireturn, 1) := dk_172 (dk_at dksX0_put_1 8 rfl rfl)
theorem dX0_put_32 : decode cX0_put 32 = .ok (.aload_n 0, 1) := dk_42 (dk_at dksX0_put_1 9 rfl rfl)
theorem dX0_put_33 : decode cX0_put 33 = .ok (.getfield 223, 3) := dk_180 0 223 (dk_at dksX0_put_1 10 rfl rfl)
theorem dX0_put_36 : decode cX0_put 36 = .ok (.invokevirtual 264, 3) := dk_182 1 8 (dk_at dksX0_put_1 13 rfl rfl)
theorem dX0_put_39 : decode cX0_put 39 = .ok (.bipush 8, 2) := dk_16 8 (dk_at dksX0_put_1 16 rfl rfl)
theorem dX0_put_41 : decode cX0_put 41 = .ok (.if_icmp .ne 15, 3) := dk_160 0 15 (dk_at dksX0_put_1 18 rfl rfl)
theorem dX0_put_44 : decode cX0_put 44 = .ok (.aload_n 0, 1) := dk_42 (dk_at dksX0_put_1 21 rfl rfl)
theorem dX0_put_45 : decode cX0_put 45 = .ok (.getfield 223, 3) := dk_180 0 223 (dk_at dksX0_put_2 0 rfl rfl)
theorem dX0_put_48 : decode cX0_put 48 = .ok (.invokevirtual 265, 3) := dk_182 1 9 (dk_at dksX0_put_2 3 rfl rfl)
theorem dX0_put_51 : decode cX0_put 51 = .ok (.checkcast 269, 3) := dk_192 1 13 (dk_at dksX0_put_2 6 rfl rfl)
theorem dX0_put_54 : decode cX0_put 54 = .ok (.astore 5, 2) := dk_58 5 (dk_at dksX0_put_2 9 rfl rfl)
theorem dX0_put_56 : decode cX0_put 56 = .ok (.aload_n 0, 1) := dk_42 (dk_at dksX0_put_2 11 rfl rfl)
theorem dX0_put_57 : decode cX0_put 57 = .ok (.getfield 223, 3) := dk_180 0 223 (dk_at dksX0_put_2 12 rfl rfl)
theorem dX0_put_60 : decode cX0_put 60 = .ok (.aload_n 0, 1) := dk_42 (dk_at dksX0_put_2 15 rfl rfl)
theorem dX0_put_61 : decode cX0_put 61 = .ok (.getfield 217, 3) := dk_180 0 217 (dk_at dksX0_put_2 16 rfl rfl)
theorem dX0_put_64 : decode cX0_put 64 = .ok (.invokevirtual 270, 3) := dk_182 1 14 (dk_at dksX0_put_2 19 rfl rfl)
theorem dX0_put_67 : decode cX0_put 67 = .ok (.checkcast 269, 3) := dk_192 1 13 (dk_at dksX0_put_3 0 rfl rfl)
theorem dX0_put_70 : decode cX0_put 70 = .ok (.invokevirtual 273, 3) := dk_182 1 17 (dk_at dksX0_put_3 3 rfl rfl)
theorem dX0_put_73 : decode cX0_put 73 = .ok (.aload_n 0, 1) := dk_42 (dk_at dksX0_put_3 6 rfl rfl)
theorem dX0_put_74 : decode cX0_put 74 = .ok (.getfield 217, 3) := dk_180 0 217 (dk_at dksX0_put_3 7 rfl rfl)
theorem dX0_put_77 : decode cX0_put 77 = .ok (.iload_n 2, 1) := dk_28 (dk_at dksX0_put_3 10 rfl rfl)
theorem dX0_put_78 : decode cX0_put 78 = .ok (.aload 4, 2) := dk_25 4 (dk_at dksX0_put_3 11 rfl rfl)
theorem dX0_put_80 : decode cX0_put 80 = .ok (.aastore, 1) := dk_83 (dk_at dksX0_put_3 13 rfl rfl)
theorem dX0_put_81 : decode cX0_put 81 = .ok (.aload 4, 2) := dk_25 4 (dk_at dksX0_put_3 14 rfl rfl)
theorem dX0_put_83 : decode cX0_put 83 = .ok (.getfield 15, 3) := dk_180 0 15 (dk_at dksX0_put_3 16 rfl rfl)
theorem dX0_put_86 : decode cX0_put 86 = .ok (.ireturn, 1) := dk_172 (dk_at dksX0_put_3 19 rfl rfl)
abbrev cX0_isSlot : ByteArray := prog_1_method_23_code
def yX0_isSlot : MethodName := ⟨RX0, "isSlot", "(I)Z"⟩
def dkwX0_isSlot_0 : List UInt8 := [26, 3, 16, 11, 184, 0, 250, 172]
abbrev dktX0_isSlot_0 : List UInt8 := dkwX0_isSlot_0 ++ []
theorem dksX0_isSlot_0 : cX0_isSlot.data.toList.drop 0 = dktX0_isSlot_0 := by decide +kernel
theorem dX0_isSlot_0 : decode cX0_isSlot 0 = .ok (.iload_n 0, 1) := dk_26 (dk_at dksX0_isSlot_0 0 rfl rfl)
theorem dX0_isSlot_1 : decode cX0_isSlot 1 = .ok (.iconst 0, 1) := dk_3 (dk_at dksX0_isSlot_0 1 rfl rfl)
theorem dX0_isSlot_2 : decode cX0_isSlot 2 = .ok (.bipush 11, 2) := dk_16 11 (dk_at dksX0_isSlot_0 2 rfl rfl)
theorem dX0_isSlot_4 : decode cX0_isSlot 4 = .ok (.invokestatic 250, 3) := dk_184 0 250 (dk_at dksX0_isSlot_0 4 rfl rfl)
theorem dX0_isSlot_7 : decode cX0_isSlot 7 = .ok (.ireturn, 1) := dk_172 (dk_at dksX0_isSlot_0 7 rfl rfl)
abbrev cX0_birthdayOf : ByteArray := prog_1_method_26_code
def yX0_birthdayOf : MethodName := ⟨RX0, "birthdayOf", "(I)I"⟩
def dkwX0_birthdayOf_0 : List UInt8 := [26, 158, 0, 9, 26, 4, 100, 167, 0, 4, 26, 172]
abbrev dktX0_birthdayOf_0 : List UInt8 := dkwX0_birthdayOf_0 ++ []
theorem dksX0_birthdayOf_0 : cX0_birthdayOf.data.toList.drop 0 = dktX0_birthdayOf_0 := by decide +kernel
theorem dX0_birthdayOf_0 : decode cX0_birthdayOf 0 = .ok (.iload_n 0, 1) := dk_26 (dk_at dksX0_birthdayOf_0 0 rfl rfl)
theorem dX0_birthdayOf_1 : decode cX0_birthdayOf 1 = .ok (.ifCond .le 9, 3) := dk_158 0 9 (dk_at dksX0_birthdayOf_0 1 rfl rfl)
theorem dX0_birthdayOf_4 : decode cX0_birthdayOf 4 = .ok (.iload_n 0, 1) := dk_26 (dk_at dksX0_birthdayOf_0 4 rfl rfl)
theorem dX0_birthdayOf_5 : decode cX0_birthdayOf 5 = .ok (.iconst 1, 1) := dk_4 (dk_at dksX0_birthdayOf_0 5 rfl rfl)
theorem dX0_birthdayOf_6 : decode cX0_birthdayOf 6 = .ok (.isub, 1) := dk_100 (dk_at dksX0_birthdayOf_0 6 rfl rfl)
theorem dX0_birthdayOf_7 : decode cX0_birthdayOf 7 = .ok (.goto 4, 3) := dk_167 0 4 (dk_at dksX0_birthdayOf_0 7 rfl rfl)
theorem dX0_birthdayOf_10 : decode cX0_birthdayOf 10 = .ok (.iload_n 0, 1) := dk_26 (dk_at dksX0_birthdayOf_0 10 rfl rfl)
theorem dX0_birthdayOf_11 : decode cX0_birthdayOf 11 = .ok (.ireturn, 1) := dk_172 (dk_at dksX0_birthdayOf_0 11 rfl rfl)
abbrev cX0_setNimber : ByteArray := prog_1_method_28_code
def yX0_setNimber : MethodName := ⟨RX0, "setNimber", "(II)I"⟩
def dkwX0_setNimber_0 : List UInt8 := [42, 28, 3, 16, 6, 184, 0, 250, 27, 42, 28, 186, 1, 31, 0, 0, 182, 1, 24, 172]
abbrev dktX0_setNimber_0 : List UInt8 := dkwX0_setNimber_0 ++ []
theorem dksX0_setNimber_0 : cX0_setNimber.data.toList.drop 0 = dktX0_setNimber_0 := by decide +kernel
theorem dX0_setNimber_0 : decode cX0_setNimber 0 = .ok (.aload_n 0, 1) := dk_42 (dk_at dksX0_setNimber_0 0 rfl rfl)
theorem dX0_setNimber_1 : decode cX0_setNimber 1 = .ok (.iload_n 2, 1) := dk_28 (dk_at dksX0_setNimber_0 1 rfl rfl)
theorem dX0_setNimber_2 : decode cX0_setNimber 2 = .ok (.iconst 0, 1) := dk_3 (dk_at dksX0_setNimber_0 2 rfl rfl)
theorem dX0_setNimber_3 : decode cX0_setNimber 3 = .ok (.bipush 6, 2) := dk_16 6 (dk_at dksX0_setNimber_0 3 rfl rfl)
theorem dX0_setNimber_5 : decode cX0_setNimber 5 = .ok (.invokestatic 250, 3) := dk_184 0 250 (dk_at dksX0_setNimber_0 5 rfl rfl)
theorem dX0_setNimber_8 : decode cX0_setNimber 8 = .ok (.iload_n 1, 1) := dk_27 (dk_at dksX0_setNimber_0 8 rfl rfl)
theorem dX0_setNimber_9 : decode cX0_setNimber 9 = .ok (.aload_n 0, 1) := dk_42 (dk_at dksX0_setNimber_0 9 rfl rfl)
theorem dX0_setNimber_10 : decode cX0_setNimber 10 = .ok (.iload_n 2, 1) := dk_28 (dk_at dksX0_setNimber_0 10 rfl rfl)
theorem dX0_setNimber_11 : decode cX0_setNimber 11 = .ok (.invokedynamic 287, 5) := by decide +kernel
theorem dX0_setNimber_16 : decode cX0_setNimber 16 = .ok (.invokevirtual 280, 3) := dk_182 1 24 (dk_at dksX0_setNimber_0 16 rfl rfl)
theorem dX0_setNimber_19 : decode cX0_setNimber 19 = .ok (.ireturn, 1) := dk_172 (dk_at dksX0_setNimber_0 19 rfl rfl)
abbrev cX0_lambda_setNimber_1 : ByteArray := prog_1_method_84_code
def yX0_lambda_setNimber_1 : MethodName := ⟨RX0, "lambda$setNimber$1", "(I)LGameCalculator$Form;"⟩
def dkwX0_lambda_setNimber_1_0 : List UInt8 := [42, 27, 182, 0, 123, 176]
abbrev dktX0_lambda_setNimber_1_0 : List UInt8 := dkwX0_lambda_setNimber_1_0 ++ []
theorem dksX0_lambda_setNimber_1_0 : cX0_lambda_setNimber_1.data.toList.drop 0 = dktX0_lambda_setNimber_1_0 := by decide +kernel
theorem dX0_lambda_setNimber_1_0 : decode cX0_lambda_setNimber_1 0 = .ok (.aload_n 0, 1) := dk_42 (dk_at dksX0_lambda_setNimber_1_0 0 rfl rfl)
theorem dX0_lambda_setNimber_1_1 : decode cX0_lambda_setNimber_1 1 = .ok (.iload_n 1, 1) := dk_27 (dk_at dksX0_lambda_setNimber_1_0 1 rfl rfl)
theorem dX0_lambda_setNimber_1_2 : decode cX0_lambda_setNimber_1 2 = .ok (.invokevirtual 123, 3) := dk_182 0 123 (dk_at dksX0_lambda_setNimber_1_0 2 rfl rfl)
theorem dX0_lambda_setNimber_1_5 : decode cX0_lambda_setNimber_1 5 = .ok (.areturn, 1) := dk_176 (dk_at dksX0_lambda_setNimber_1_0 5 rfl rfl)
abbrev cX0_nimberForm : ByteArray := prog_1_method_11_code
def yX0_nimberForm : MethodName := ⟨RX0, "nimberForm", "(I)LGameCalculator$Form;"⟩
def dkwX0_nimberForm_2 : List UInt8 := [167, 255, 230, 44, 45, 182, 0, 115, 44, 25, 4, 182, 0, 42, 176]
abbrev dktX0_nimberForm_2 : List UInt8 := dkwX0_nimberForm_2 ++ []
def dkwX0_nimberForm_1 : List UInt8 := [162, 0, 26, 45, 25, 4, 185, 0, 112, 2, 0, 87, 44, 45, 45, 182, 0, 109, 58, 4, 132, 5, 1]
abbrev dktX0_nimberForm_1 : List UInt8 := dkwX0_nimberForm_1 ++ dktX0_nimberForm_2
def dkwX0_nimberForm_0 : List UInt8 := [42, 182, 0, 26, 77, 44, 182, 0, 46, 78, 44, 45, 45, 182, 0, 109, 58, 4, 3, 54, 5, 21, 5, 27]
abbrev dktX0_nimberForm_0 : List UInt8 := dkwX0_nimberForm_0 ++ dktX0_nimberForm_1
theorem dksX0_nimberForm_0 : cX0_nimberForm.data.toList.drop 0 = dktX0_nimberForm_0 := by decide +kernel
theorem dksX0_nimberForm_1 : cX0_nimberForm.data.toList.drop 24 = dktX0_nimberForm_1 := dk_seg dksX0_nimberForm_0 24 rfl rfl
theorem dksX0_nimberForm_2 : cX0_nimberForm.data.toList.drop 47 = dktX0_nimberForm_2 := dk_seg dksX0_nimberForm_1 23 rfl rfl
theorem dX0_nimberForm_0 : decode cX0_nimberForm 0 = .ok (.aload_n 0, 1) := dk_42 (dk_at dksX0_nimberForm_0 0 rfl rfl)
theorem dX0_nimberForm_1 : decode cX0_nimberForm 1 = .ok (.invokevirtual 26, 3) := dk_182 0 26 (dk_at dksX0_nimberForm_0 1 rfl rfl)
theorem dX0_nimberForm_4 : decode cX0_nimberForm 4 = .ok (.astore_n 2, 1) := dk_77 (dk_at dksX0_nimberForm_0 4 rfl rfl)
theorem dX0_nimberForm_5 : decode cX0_nimberForm 5 = .ok (.aload_n 2, 1) := dk_44 (dk_at dksX0_nimberForm_0 5 rfl rfl)
theorem dX0_nimberForm_6 : decode cX0_nimberForm 6 = .ok (.invokevirtual 46, 3) := dk_182 0 46 (dk_at dksX0_nimberForm_0 6 rfl rfl)
theorem dX0_nimberForm_9 : decode cX0_nimberForm 9 = .ok (.astore_n 3, 1) := dk_78 (dk_at dksX0_nimberForm_0 9 rfl rfl)
theorem dX0_nimberForm_10 : decode cX0_nimberForm 10 = .ok (.aload_n 2, 1) := dk_44 (dk_at dksX0_nimberForm_0 10 rfl rfl)
theorem dX0_nimberForm_11 : decode cX0_nimberForm 11 = .ok (.aload_n 3, 1) := dk_45 (dk_at dksX0_nimberForm_0 11 rfl rfl)
theorem dX0_nimberForm_12 : decode cX0_nimberForm 12 = .ok (.aload_n 3, 1) := dk_45 (dk_at dksX0_nimberForm_0 12 rfl rfl)
theorem dX0_nimberForm_13 : decode cX0_nimberForm 13 = .ok (.invokevirtual 109, 3) := dk_182 0 109 (dk_at dksX0_nimberForm_0 13 rfl rfl)
theorem dX0_nimberForm_16 : decode cX0_nimberForm 16 = .ok (.astore 4, 2) := dk_58 4 (dk_at dksX0_nimberForm_0 16 rfl rfl)
theorem dX0_nimberForm_18 : decode cX0_nimberForm 18 = .ok (.iconst 0, 1) := dk_3 (dk_at dksX0_nimberForm_0 18 rfl rfl)
theorem dX0_nimberForm_19 : decode cX0_nimberForm 19 = .ok (.istore 5, 2) := dk_54 5 (dk_at dksX0_nimberForm_0 19 rfl rfl)
theorem dX0_nimberForm_21 : decode cX0_nimberForm 21 = .ok (.iload 5, 2) := dk_21 5 (dk_at dksX0_nimberForm_0 21 rfl rfl)
theorem dX0_nimberForm_23 : decode cX0_nimberForm 23 = .ok (.iload_n 1, 1) := dk_27 (dk_at dksX0_nimberForm_0 23 rfl rfl)
theorem dX0_nimberForm_24 : decode cX0_nimberForm 24 = .ok (.if_icmp .ge 26, 3) := dk_162 0 26 (dk_at dksX0_nimberForm_1 0 rfl rfl)
theorem dX0_nimberForm_27 : decode cX0_nimberForm 27 = .ok (.aload_n 3, 1) := dk_45 (dk_at dksX0_nimberForm_1 3 rfl rfl)
theorem dX0_nimberForm_28 : decode cX0_nimberForm 28 = .ok (.aload 4, 2) := dk_25 4 (dk_at dksX0_nimberForm_1 4 rfl rfl)
theorem dX0_nimberForm_30 : decode cX0_nimberForm 30 = .ok (.invokeinterface 112 2, 5) := by decide +kernel
theorem dX0_nimberForm_35 : decode cX0_nimberForm 35 = .ok (.pop, 1) := dk_87 (dk_at dksX0_nimberForm_1 11 rfl rfl)
theorem dX0_nimberForm_36 : decode cX0_nimberForm 36 = .ok (.aload_n 2, 1) := dk_44 (dk_at dksX0_nimberForm_1 12 rfl rfl)
theorem dX0_nimberForm_37 : decode cX0_nimberForm 37 = .ok (.aload_n 3, 1) := dk_45 (dk_at dksX0_nimberForm_1 13 rfl rfl)
theorem dX0_nimberForm_38 : decode cX0_nimberForm 38 = .ok (.aload_n 3, 1) := dk_45 (dk_at dksX0_nimberForm_1 14 rfl rfl)
theorem dX0_nimberForm_39 : decode cX0_nimberForm 39 = .ok (.invokevirtual 109, 3) := dk_182 0 109 (dk_at dksX0_nimberForm_1 15 rfl rfl)
theorem dX0_nimberForm_42 : decode cX0_nimberForm 42 = .ok (.astore 4, 2) := dk_58 4 (dk_at dksX0_nimberForm_1 18 rfl rfl)
theorem dX0_nimberForm_44 : decode cX0_nimberForm 44 = .ok (.iinc 5 1, 3) := dk_132 5 1 (dk_at dksX0_nimberForm_1 20 rfl rfl)
theorem dX0_nimberForm_47 : decode cX0_nimberForm 47 = .ok (.goto (-26), 3) := dk_167 255 230 (dk_at dksX0_nimberForm_2 0 rfl rfl)
theorem dX0_nimberForm_50 : decode cX0_nimberForm 50 = .ok (.aload_n 2, 1) := dk_44 (dk_at dksX0_nimberForm_2 3 rfl rfl)
theorem dX0_nimberForm_51 : decode cX0_nimberForm 51 = .ok (.aload_n 3, 1) := dk_45 (dk_at dksX0_nimberForm_2 4 rfl rfl)
theorem dX0_nimberForm_52 : decode cX0_nimberForm 52 = .ok (.invokevirtual 115, 3) := dk_182 0 115 (dk_at dksX0_nimberForm_2 5 rfl rfl)
theorem dX0_nimberForm_55 : decode cX0_nimberForm 55 = .ok (.aload_n 2, 1) := dk_44 (dk_at dksX0_nimberForm_2 8 rfl rfl)
theorem dX0_nimberForm_56 : decode cX0_nimberForm 56 = .ok (.aload 4, 2) := dk_25 4 (dk_at dksX0_nimberForm_2 9 rfl rfl)
theorem dX0_nimberForm_58 : decode cX0_nimberForm 58 = .ok (.invokevirtual 42, 3) := dk_182 0 42 (dk_at dksX0_nimberForm_2 11 rfl rfl)
theorem dX0_nimberForm_61 : decode cX0_nimberForm 61 = .ok (.areturn, 1) := dk_176 (dk_at dksX0_nimberForm_2 14 rfl rfl)
abbrev cX0_setUp : ByteArray := prog_1_method_29_code
def yX0_setUp : MethodName := ⟨RX0, "setUp", "(III)I"⟩
def dkwX0_setUp_1 : List UInt8 := [3, 27, 42, 28, 29, 186, 1, 34, 0, 0, 182, 1, 24, 172]
abbrev dktX0_setUp_1 : List UInt8 := dkwX0_setUp_1 ++ []
def dkwX0_setUp_0 : List UInt8 := [42, 28, 16, 252, 7, 184, 0, 250, 153, 0, 16, 29, 3, 6, 184, 0, 250, 153, 0, 7, 4, 167, 0, 4]
abbrev dktX0_setUp_0 : List UInt8 := dkwX0_setUp_0 ++ dktX0_setUp_1
theorem dksX0_setUp_0 : cX0_setUp.data.toList.drop 0 = dktX0_setUp_0 := by decide +kernel
theorem dksX0_setUp_1 : cX0_setUp.data.toList.drop 24 = dktX0_setUp_1 := dk_seg dksX0_setUp_0 24 rfl rfl
theorem dX0_setUp_0 : decode cX0_setUp 0 = .ok (.aload_n 0, 1) := dk_42 (dk_at dksX0_setUp_0 0 rfl rfl)
theorem dX0_setUp_1 : decode cX0_setUp 1 = .ok (.iload_n 2, 1) := dk_28 (dk_at dksX0_setUp_0 1 rfl rfl)
theorem dX0_setUp_2 : decode cX0_setUp 2 = .ok (.bipush (-4), 2) := dk_16 252 (dk_at dksX0_setUp_0 2 rfl rfl)
theorem dX0_setUp_4 : decode cX0_setUp 4 = .ok (.iconst 4, 1) := dk_7 (dk_at dksX0_setUp_0 4 rfl rfl)
theorem dX0_setUp_5 : decode cX0_setUp 5 = .ok (.invokestatic 250, 3) := dk_184 0 250 (dk_at dksX0_setUp_0 5 rfl rfl)
theorem dX0_setUp_8 : decode cX0_setUp 8 = .ok (.ifCond .eq 16, 3) := dk_153 0 16 (dk_at dksX0_setUp_0 8 rfl rfl)
theorem dX0_setUp_11 : decode cX0_setUp 11 = .ok (.iload_n 3, 1) := dk_29 (dk_at dksX0_setUp_0 11 rfl rfl)
theorem dX0_setUp_12 : decode cX0_setUp 12 = .ok (.iconst 0, 1) := dk_3 (dk_at dksX0_setUp_0 12 rfl rfl)
theorem dX0_setUp_13 : decode cX0_setUp 13 = .ok (.iconst 3, 1) := dk_6 (dk_at dksX0_setUp_0 13 rfl rfl)
theorem dX0_setUp_14 : decode cX0_setUp 14 = .ok (.invokestatic 250, 3) := dk_184 0 250 (dk_at dksX0_setUp_0 14 rfl rfl)
theorem dX0_setUp_17 : decode cX0_setUp 17 = .ok (.ifCond .eq 7, 3) := dk_153 0 7 (dk_at dksX0_setUp_0 17 rfl rfl)
theorem dX0_setUp_20 : decode cX0_setUp 20 = .ok (.iconst 1, 1) := dk_4 (dk_at dksX0_setUp_0 20 rfl rfl)
theorem dX0_setUp_21 : decode cX0_setUp 21 = .ok (.goto 4, 3) := dk_167 0 4 (dk_at dksX0_setUp_0 21 rfl rfl)
theorem dX0_setUp_24 : decode cX0_setUp 24 = .ok (.iconst 0, 1) := dk_3 (dk_at dksX0_setUp_1 0 rfl rfl)
theorem dX0_setUp_25 : decode cX0_setUp 25 = .ok (.iload_n 1, 1) := dk_27 (dk_at dksX0_setUp_1 1 rfl rfl)
theorem dX0_setUp_26 : decode cX0_setUp 26 = .ok (.aload_n 0, 1) := dk_42 (dk_at dksX0_setUp_1 2 rfl rfl)
theorem dX0_setUp_27 : decode cX0_setUp 27 = .ok (.iload_n 2, 1) := dk_28 (dk_at dksX0_setUp_1 3 rfl rfl)
theorem dX0_setUp_28 : decode cX0_setUp 28 = .ok (.iload_n 3, 1) := dk_29 (dk_at dksX0_setUp_1 4 rfl rfl)
theorem dX0_setUp_29 : decode cX0_setUp 29 = .ok (.invokedynamic 290, 5) := by decide +kernel
theorem dX0_setUp_34 : decode cX0_setUp 34 = .ok (.invokevirtual 280, 3) := dk_182 1 24 (dk_at dksX0_setUp_1 10 rfl rfl)
theorem dX0_setUp_37 : decode cX0_setUp 37 = .ok (.ireturn, 1) := dk_172 (dk_at dksX0_setUp_1 13 rfl rfl)
abbrev cX0_lambda_setUp_2 : ByteArray := prog_1_method_83_code
def yX0_lambda_setUp_2 : MethodName := ⟨RX0, "lambda$setUp$2", "(II)LGameCalculator$Form;"⟩
def dkwX0_lambda_setUp_2_0 : List UInt8 := [42, 27, 28, 182, 1, 179, 176]
abbrev dktX0_lambda_setUp_2_0 : List UInt8 := dkwX0_lambda_setUp_2_0 ++ []
theorem dksX0_lambda_setUp_2_0 : cX0_lambda_setUp_2.data.toList.drop 0 = dktX0_lambda_setUp_2_0 := by decide +kernel
theorem dX0_lambda_setUp_2_0 : decode cX0_lambda_setUp_2 0 = .ok (.aload_n 0, 1) := dk_42 (dk_at dksX0_lambda_setUp_2_0 0 rfl rfl)
theorem dX0_lambda_setUp_2_1 : decode cX0_lambda_setUp_2 1 = .ok (.iload_n 1, 1) := dk_27 (dk_at dksX0_lambda_setUp_2_0 1 rfl rfl)
theorem dX0_lambda_setUp_2_2 : decode cX0_lambda_setUp_2 2 = .ok (.iload_n 2, 1) := dk_28 (dk_at dksX0_lambda_setUp_2_0 2 rfl rfl)
theorem dX0_lambda_setUp_2_3 : decode cX0_lambda_setUp_2 3 = .ok (.invokevirtual 435, 3) := dk_182 1 179 (dk_at dksX0_lambda_setUp_2_0 3 rfl rfl)
theorem dX0_lambda_setUp_2_6 : decode cX0_lambda_setUp_2 6 = .ok (.areturn, 1) := dk_176 (dk_at dksX0_lambda_setUp_2_0 6 rfl rfl)
abbrev cX0_upForm : ByteArray := prog_1_method_12_code
def yX0_upForm : MethodName := ⟨RX0, "upForm", "(II)LGameCalculator$Form;"⟩
def dkwX0_upForm_6 : List UInt8 := [180, 0, 119, 29, 50, 176]
abbrev dktX0_upForm_6 : List UInt8 := dkwX0_upForm_6 ++ []
def dkwX0_upForm_5 : List UInt8 := [25, 4, 58, 4, 42, 180, 0, 119, 29, 42, 25, 4, 42, 28, 182, 0, 123, 182, 0, 139, 83, 42]
abbrev dktX0_upForm_5 : List UInt8 := dkwX0_upForm_5 ++ dktX0_upForm_6
def dkwX0_upForm_4 : List UInt8 := [182, 0, 139, 58, 4, 132, 8, 1, 167, 255, 234, 27, 156, 0, 12, 42, 25, 4, 182, 0, 143, 167, 0, 5]
abbrev dktX0_upForm_4 : List UInt8 := dkwX0_upForm_4 ++ dktX0_upForm_5
def dkwX0_upForm_3 : List UInt8 := [182, 0, 130, 58, 7, 3, 54, 8, 21, 8, 27, 184, 0, 134, 162, 0, 19, 42, 25, 4, 25, 7]
abbrev dktX0_upForm_3 : List UInt8 := dkwX0_upForm_3 ++ dktX0_upForm_4
def dkwX0_upForm_2 : List UInt8 := [185, 0, 112, 2, 0, 87, 25, 6, 42, 4, 182, 0, 123, 185, 0, 112, 2, 0, 87, 42, 25, 5, 25, 6]
abbrev dktX0_upForm_2 : List UInt8 := dkwX0_upForm_2 ++ dktX0_upForm_3
def dkwX0_upForm_1 : List UInt8 := [187, 0, 127, 89, 183, 0, 129, 58, 5, 187, 0, 127, 89, 183, 0, 129, 58, 6, 25, 5, 25, 4]
abbrev dktX0_upForm_1 : List UInt8 := dkwX0_upForm_1 ++ dktX0_upForm_2
def dkwX0_upForm_0 : List UInt8 := [7, 27, 7, 96, 104, 28, 96, 62, 42, 180, 0, 119, 29, 50, 199, 0, 123, 42, 3, 182, 0, 123, 58, 4]
abbrev dktX0_upForm_0 : List UInt8 := dkwX0_upForm_0 ++ dktX0_upForm_1
theorem dksX0_upForm_0 : cX0_upForm.data.toList.drop 0 = dktX0_upForm_0 := by decide +kernel
theorem dksX0_upForm_1 : cX0_upForm.data.toList.drop 24 = dktX0_upForm_1 := dk_seg dksX0_upForm_0 24 rfl rfl
theorem dksX0_upForm_2 : cX0_upForm.data.toList.drop 46 = dktX0_upForm_2 := dk_seg dksX0_upForm_1 22 rfl rfl
theorem dksX0_upForm_3 : cX0_upForm.data.toList.drop 70 = dktX0_upForm_3 := dk_seg dksX0_upForm_2 24 rfl rfl
theorem dksX0_upForm_4 : cX0_upForm.data.toList.drop 92 = dktX0_upForm_4 := dk_seg dksX0_upForm_3 22 rfl rfl
theorem dksX0_upForm_5 : cX0_upForm.data.toList.drop 116 = dktX0_upForm_5 := dk_seg dksX0_upForm_4 24 rfl rfl
theorem dksX0_upForm_6 : cX0_upForm.data.toList.drop 138 = dktX0_upForm_6 := dk_seg dksX0_upForm_5 22 rfl rfl
theorem dX0_upForm_0 : decode cX0_upForm 0 = .ok (.iconst 4, 1) := dk_7 (dk_at dksX0_upForm_0 0 rfl rfl)
theorem dX0_upForm_1 : decode cX0_upForm 1 = .ok (.iload_n 1, 1) := dk_27 (dk_at dksX0_upForm_0 1 rfl rfl)
theorem dX0_upForm_2 : decode cX0_upForm 2 = .ok (.iconst 4, 1) := dk_7 (dk_at dksX0_upForm_0 2 rfl rfl)
theorem dX0_upForm_3 : decode cX0_upForm 3 = .ok (.iadd, 1) := dk_96 (dk_at dksX0_upForm_0 3 rfl rfl)
theorem dX0_upForm_4 : decode cX0_upForm 4 = .ok (.imul, 1) := dk_104 (dk_at dksX0_upForm_0 4 rfl rfl)
theorem dX0_upForm_5 : decode cX0_upForm 5 = .ok (.iload_n 2, 1) := dk_28 (dk_at dksX0_upForm_0 5 rfl rfl)
theorem dX0_upForm_6 : decode cX0_upForm 6 = .ok (.iadd, 1) := dk_96 (dk_at dksX0_upForm_0 6 rfl rfl)
theorem dX0_upForm_7 : decode cX0_upForm 7 = .ok (.istore_n 3, 1) := dk_62 (dk_at dksX0_upForm_0 7 rfl rfl)
theorem dX0_upForm_8 : decode cX0_upForm 8 = .ok (.aload_n 0, 1) := dk_42 (dk_at dksX0_upForm_0 8 rfl rfl)
theorem dX0_upForm_9 : decode cX0_upForm 9 = .ok (.getfield 119, 3) := dk_180 0 119 (dk_at dksX0_upForm_0 9 rfl rfl)
theorem dX0_upForm_12 : decode cX0_upForm 12 = .ok (.iload_n 3, 1) := dk_29 (dk_at dksX0_upForm_0 12 rfl rfl)
theorem dX0_upForm_13 : decode cX0_upForm 13 = .ok (.aaload, 1) := dk_50 (dk_at dksX0_upForm_0 13 rfl rfl)
theorem dX0_upForm_14 : decode cX0_upForm 14 = .ok (.ifnonnull 123, 3) := dk_199 0 123 (dk_at dksX0_upForm_0 14 rfl rfl)
theorem dX0_upForm_17 : decode cX0_upForm 17 = .ok (.aload_n 0, 1) := dk_42 (dk_at dksX0_upForm_0 17 rfl rfl)
theorem dX0_upForm_18 : decode cX0_upForm 18 = .ok (.iconst 0, 1) := dk_3 (dk_at dksX0_upForm_0 18 rfl rfl)
theorem dX0_upForm_19 : decode cX0_upForm 19 = .ok (.invokevirtual 123, 3) := dk_182 0 123 (dk_at dksX0_upForm_0 19 rfl rfl)
theorem dX0_upForm_22 : decode cX0_upForm 22 = .ok (.astore 4, 2) := dk_58 4 (dk_at dksX0_upForm_0 22 rfl rfl)
theorem dX0_upForm_24 : decode cX0_upForm 24 = .ok (.new 127, 3) := dk_187 0 127 (dk_at dksX0_upForm_1 0 rfl rfl)
theorem dX0_upForm_27 : decode cX0_upForm 27 = .ok (.dup, 1) := dk_89 (dk_at dksX0_upForm_1 3 rfl rfl)
theorem dX0_upForm_28 : decode cX0_upForm 28 = .ok (.invokespecial 129, 3) := dk_183 0 129 (dk_at dksX0_upForm_1 4 rfl rfl)
theorem dX0_upForm_31 : decode cX0_upForm 31 = .ok (.astore 5, 2) := dk_58 5 (dk_at dksX0_upForm_1 7 rfl rfl)
theorem dX0_upForm_33 : decode cX0_upForm 33 = .ok (.new 127, 3) := dk_187 0 127 (dk_at dksX0_upForm_1 9 rfl rfl)
theorem dX0_upForm_36 : decode cX0_upForm 36 = .ok (.dup, 1) := dk_89 (dk_at dksX0_upForm_1 12 rfl rfl)
theorem dX0_upForm_37 : decode cX0_upForm 37 = .ok (.invokespecial 129, 3) := dk_183 0 129 (dk_at dksX0_upForm_1 13 rfl rfl)
theorem dX0_upForm_40 : decode cX0_upForm 40 = .ok (.astore 6, 2) := dk_58 6 (dk_at dksX0_upForm_1 16 rfl rfl)
theorem dX0_upForm_42 : decode cX0_upForm 42 = .ok (.aload 5, 2) := dk_25 5 (dk_at dksX0_upForm_1 18 rfl rfl)
theorem dX0_upForm_44 : decode cX0_upForm 44 = .ok (.aload 4, 2) := dk_25 4 (dk_at dksX0_upForm_1 20 rfl rfl)
theorem dX0_upForm_46 : decode cX0_upForm 46 = .ok (.invokeinterface 112 2, 5) := by decide +kernel
theorem dX0_upForm_51 : decode cX0_upForm 51 = .ok (.pop, 1) := dk_87 (dk_at dksX0_upForm_2 5 rfl rfl)
theorem dX0_upForm_52 : decode cX0_upForm 52 = .ok (.aload 6, 2) := dk_25 6 (dk_at dksX0_upForm_2 6 rfl rfl)
theorem dX0_upForm_54 : decode cX0_upForm 54 = .ok (.aload_n 0, 1) := dk_42 (dk_at dksX0_upForm_2 8 rfl rfl)
theorem dX0_upForm_55 : decode cX0_upForm 55 = .ok (.iconst 1, 1) := dk_4 (dk_at dksX0_upForm_2 9 rfl rfl)
theorem dX0_upForm_56 : decode cX0_upForm 56 = .ok (.invokevirtual 123, 3) := dk_182 0 123 (dk_at dksX0_upForm_2 10 rfl rfl)
theorem dX0_upForm_59 : decode cX0_upForm 59 = .ok (.invokeinterface 112 2, 5) := by decide +kernel
theorem dX0_upForm_64 : decode cX0_upForm 64 = .ok (.pop, 1) := dk_87 (dk_at dksX0_upForm_2 18 rfl rfl)
theorem dX0_upForm_65 : decode cX0_upForm 65 = .ok (.aload_n 0, 1) := dk_42 (dk_at dksX0_upForm_2 19 rfl rfl)
theorem dX0_upForm_66 : decode cX0_upForm 66 = .ok (.aload 5, 2) := dk_25 5 (dk_at dksX0_upForm_2 20 rfl rfl)
theorem dX0_upForm_68 : decode cX0_upForm 68 = .ok (.aload 6, 2) := dk_25 6 (dk_at dksX0_upForm_2 22 rfl rfl)
theorem dX0_upForm_70 : decode cX0_upForm 70 = .ok (.invokevirtual 130, 3) := dk_182 0 130 (dk_at dksX0_upForm_3 0 rfl rfl)
theorem dX0_upForm_73 : decode cX0_upForm 73 = .ok (.astore 7, 2) := dk_58 7 (dk_at dksX0_upForm_3 3 rfl rfl)
theorem dX0_upForm_75 : decode cX0_upForm 75 = .ok (.iconst 0, 1) := dk_3 (dk_at dksX0_upForm_3 5 rfl rfl)
theorem dX0_upForm_76 : decode cX0_upForm 76 = .ok (.istore 8, 2) := dk_54 8 (dk_at dksX0_upForm_3 6 rfl rfl)
theorem dX0_upForm_78 : decode cX0_upForm 78 = .ok (.iload 8, 2) := dk_21 8 (dk_at dksX0_upForm_3 8 rfl rfl)
theorem dX0_upForm_80 : decode cX0_upForm 80 = .ok (.iload_n 1, 1) := dk_27 (dk_at dksX0_upForm_3 10 rfl rfl)
theorem dX0_upForm_81 : decode cX0_upForm 81 = .ok (.invokestatic 134, 3) := dk_184 0 134 (dk_at dksX0_upForm_3 11 rfl rfl)
theorem dX0_upForm_84 : decode cX0_upForm 84 = .ok (.if_icmp .ge 19, 3) := dk_162 0 19 (dk_at dksX0_upForm_3 14 rfl rfl)
theorem dX0_upForm_87 : decode cX0_upForm 87 = .ok (.aload_n 0, 1) := dk_42 (dk_at dksX0_upForm_3 17 rfl rfl)
theorem dX0_upForm_88 : decode cX0_upForm 88 = .ok (.aload 4, 2) := dk_25 4 (dk_at dksX0_upForm_3 18 rfl rfl)
theorem dX0_upForm_90 : decode cX0_upForm 90 = .ok (.aload 7, 2) := dk_25 7 (dk_at dksX0_upForm_3 20 rfl rfl)
theorem dX0_upForm_92 : decode cX0_upForm 92 = .ok (.invokevirtual 139, 3) := dk_182 0 139 (dk_at dksX0_upForm_4 0 rfl rfl)
theorem dX0_upForm_95 : decode cX0_upForm 95 = .ok (.astore 4, 2) := dk_58 4 (dk_at dksX0_upForm_4 3 rfl rfl)
theorem dX0_upForm_97 : decode cX0_upForm 97 = .ok (.iinc 8 1, 3) := dk_132 8 1 (dk_at dksX0_upForm_4 5 rfl rfl)
theorem dX0_upForm_100 : decode cX0_upForm 100 = .ok (.goto (-22), 3) := dk_167 255 234 (dk_at dksX0_upForm_4 8 rfl rfl)
theorem dX0_upForm_103 : decode cX0_upForm 103 = .ok (.iload_n 1, 1) := dk_27 (dk_at dksX0_upForm_4 11 rfl rfl)
theorem dX0_upForm_104 : decode cX0_upForm 104 = .ok (.ifCond .ge 12, 3) := dk_156 0 12 (dk_at dksX0_upForm_4 12 rfl rfl)
theorem dX0_upForm_107 : decode cX0_upForm 107 = .ok (.aload_n 0, 1) := dk_42 (dk_at dksX0_upForm_4 15 rfl rfl)
theorem dX0_upForm_108 : decode cX0_upForm 108 = .ok (.aload 4, 2) := dk_25 4 (dk_at dksX0_upForm_4 16 rfl rfl)
theorem dX0_upForm_110 : decode cX0_upForm 110 = .ok (.invokevirtual 143, 3) := dk_182 0 143 (dk_at dksX0_upForm_4 18 rfl rfl)
theorem dX0_upForm_113 : decode cX0_upForm 113 = .ok (.goto 5, 3) := dk_167 0 5 (dk_at dksX0_upForm_4 21 rfl rfl)
theorem dX0_upForm_116 : decode cX0_upForm 116 = .ok (.aload 4, 2) := dk_25 4 (dk_at dksX0_upForm_5 0 rfl rfl)
theorem dX0_upForm_118 : decode cX0_upForm 118 = .ok (.astore 4, 2) := dk_58 4 (dk_at dksX0_upForm_5 2 rfl rfl)
theorem dX0_upForm_120 : decode cX0_upForm 120 = .ok (.aload_n 0, 1) := dk_42 (dk_at dksX0_upForm_5 4 rfl rfl)
theorem dX0_upForm_121 : decode cX0_upForm 121 = .ok (.getfield 119, 3) := dk_180 0 119 (dk_at dksX0_upForm_5 5 rfl rfl)
theorem dX0_upForm_124 : decode cX0_upForm 124 = .ok (.iload_n 3, 1) := dk_29 (dk_at dksX0_upForm_5 8 rfl rfl)
theorem dX0_upForm_125 : decode cX0_upForm 125 = .ok (.aload_n 0, 1) := dk_42 (dk_at dksX0_upForm_5 9 rfl rfl)
theorem dX0_upForm_126 : decode cX0_upForm 126 = .ok (.aload 4, 2) := dk_25 4 (dk_at dksX0_upForm_5 10 rfl rfl)
theorem dX0_upForm_128 : decode cX0_upForm 128 = .ok (.aload_n 0, 1) := dk_42 (dk_at dksX0_upForm_5 12 rfl rfl)
theorem dX0_upForm_129 : decode cX0_upForm 129 = .ok (.iload_n 2, 1) := dk_28 (dk_at dksX0_upForm_5 13 rfl rfl)
theorem dX0_upForm_130 : decode cX0_upForm 130 = .ok (.invokevirtual 123, 3) := dk_182 0 123 (dk_at dksX0_upForm_5 14 rfl rfl)
theorem dX0_upForm_133 : decode cX0_upForm 133 = .ok (.invokevirtual 139, 3) := dk_182 0 139 (dk_at dksX0_upForm_5 17 rfl rfl)
theorem dX0_upForm_136 : decode cX0_upForm 136 = .ok (.aastore, 1) := dk_83 (dk_at dksX0_upForm_5 20 rfl rfl)
theorem dX0_upForm_137 : decode cX0_upForm 137 = .ok (.aload_n 0, 1) := dk_42 (dk_at dksX0_upForm_5 21 rfl rfl)
theorem dX0_upForm_138 : decode cX0_upForm 138 = .ok (.getfield 119, 3) := dk_180 0 119 (dk_at dksX0_upForm_6 0 rfl rfl)
theorem dX0_upForm_141 : decode cX0_upForm 141 = .ok (.iload_n 3, 1) := dk_29 (dk_at dksX0_upForm_6 3 rfl rfl)
theorem dX0_upForm_142 : decode cX0_upForm 142 = .ok (.aaload, 1) := dk_50 (dk_at dksX0_upForm_6 4 rfl rfl)
theorem dX0_upForm_143 : decode cX0_upForm 143 = .ok (.areturn, 1) := dk_176 (dk_at dksX0_upForm_6 5 rfl rfl)
abbrev cX0_made : ByteArray := prog_1_method_9_code
def yX0_made : MethodName := ⟨RX0, "made", "(Ljava/util/List;Ljava/util/List;)LGameCalculator$Form;"⟩
def dkwX0_made_0 : List UInt8 := [42, 182, 0, 26, 78, 45, 45, 45, 43, 184, 0, 105, 45, 44, 184, 0, 105, 182, 0, 38, 182, 0, 42, 176]
abbrev dktX0_made_0 : List UInt8 := dkwX0_made_0 ++ []
theorem dksX0_made_0 : cX0_made.data.toList.drop 0 = dktX0_made_0 := by decide +kernel
theorem dX0_made_0 : decode cX0_made 0 = .ok (.aload_n 0, 1) := dk_42 (dk_at dksX0_made_0 0 rfl rfl)
theorem dX0_made_1 : decode cX0_made 1 = .ok (.invokevirtual 26, 3) := dk_182 0 26 (dk_at dksX0_made_0 1 rfl rfl)
theorem dX0_made_4 : decode cX0_made 4 = .ok (.astore_n 3, 1) := dk_78 (dk_at dksX0_made_0 4 rfl rfl)
theorem dX0_made_5 : decode cX0_made 5 = .ok (.aload_n 3, 1) := dk_45 (dk_at dksX0_made_0 5 rfl rfl)
theorem dX0_made_6 : decode cX0_made 6 = .ok (.aload_n 3, 1) := dk_45 (dk_at dksX0_made_0 6 rfl rfl)
theorem dX0_made_7 : decode cX0_made 7 = .ok (.aload_n 3, 1) := dk_45 (dk_at dksX0_made_0 7 rfl rfl)
theorem dX0_made_8 : decode cX0_made 8 = .ok (.aload_n 1, 1) := dk_43 (dk_at dksX0_made_0 8 rfl rfl)
theorem dX0_made_9 : decode cX0_made 9 = .ok (.invokestatic 105, 3) := dk_184 0 105 (dk_at dksX0_made_0 9 rfl rfl)
theorem dX0_made_12 : decode cX0_made 12 = .ok (.aload_n 3, 1) := dk_45 (dk_at dksX0_made_0 12 rfl rfl)
theorem dX0_made_13 : decode cX0_made 13 = .ok (.aload_n 2, 1) := dk_44 (dk_at dksX0_made_0 13 rfl rfl)
theorem dX0_made_14 : decode cX0_made 14 = .ok (.invokestatic 105, 3) := dk_184 0 105 (dk_at dksX0_made_0 14 rfl rfl)
theorem dX0_made_17 : decode cX0_made 17 = .ok (.invokevirtual 38, 3) := dk_182 0 38 (dk_at dksX0_made_0 17 rfl rfl)
theorem dX0_made_20 : decode cX0_made 20 = .ok (.invokevirtual 42, 3) := dk_182 0 42 (dk_at dksX0_made_0 20 rfl rfl)
theorem dX0_made_23 : decode cX0_made 23 = .ok (.areturn, 1) := dk_176 (dk_at dksX0_made_0 23 rfl rfl)
abbrev cX0_games : ByteArray := prog_1_method_10_code
def yX0_games : MethodName := ⟨RX0, "games", "(LGameCalculator$Arena;Ljava/util/List;)Ljava/util/List;"⟩
def dkwX0_games_1 : List UInt8 := [185, 0, 97, 2, 0, 192, 0, 16, 182, 0, 64, 184, 0, 60, 132, 3, 1, 167, 255, 225, 44, 176]
abbrev dktX0_games_1 : List UInt8 := dkwX0_games_1 ++ []
def dkwX0_games_0 : List UInt8 := [42, 182, 0, 46, 77, 3, 62, 29, 43, 185, 0, 91, 1, 0, 162, 0, 27, 44, 42, 43, 29]
abbrev dktX0_games_0 : List UInt8 := dkwX0_games_0 ++ dktX0_games_1
theorem dksX0_games_0 : cX0_games.data.toList.drop 0 = dktX0_games_0 := by decide +kernel
theorem dksX0_games_1 : cX0_games.data.toList.drop 21 = dktX0_games_1 := dk_seg dksX0_games_0 21 rfl rfl
theorem dX0_games_0 : decode cX0_games 0 = .ok (.aload_n 0, 1) := dk_42 (dk_at dksX0_games_0 0 rfl rfl)
theorem dX0_games_1 : decode cX0_games 1 = .ok (.invokevirtual 46, 3) := dk_182 0 46 (dk_at dksX0_games_0 1 rfl rfl)
theorem dX0_games_4 : decode cX0_games 4 = .ok (.astore_n 2, 1) := dk_77 (dk_at dksX0_games_0 4 rfl rfl)
theorem dX0_games_5 : decode cX0_games 5 = .ok (.iconst 0, 1) := dk_3 (dk_at dksX0_games_0 5 rfl rfl)
theorem dX0_games_6 : decode cX0_games 6 = .ok (.istore_n 3, 1) := dk_62 (dk_at dksX0_games_0 6 rfl rfl)
theorem dX0_games_7 : decode cX0_games 7 = .ok (.iload_n 3, 1) := dk_29 (dk_at dksX0_games_0 7 rfl rfl)
theorem dX0_games_8 : decode cX0_games 8 = .ok (.aload_n 1, 1) := dk_43 (dk_at dksX0_games_0 8 rfl rfl)
theorem dX0_games_9 : decode cX0_games 9 = .ok (.invokeinterface 91 1, 5) := by decide +kernel
theorem dX0_games_14 : decode cX0_games 14 = .ok (.if_icmp .ge 27, 3) := dk_162 0 27 (dk_at dksX0_games_0 14 rfl rfl)
theorem dX0_games_17 : decode cX0_games 17 = .ok (.aload_n 2, 1) := dk_44 (dk_at dksX0_games_0 17 rfl rfl)
theorem dX0_games_18 : decode cX0_games 18 = .ok (.aload_n 0, 1) := dk_42 (dk_at dksX0_games_0 18 rfl rfl)
theorem dX0_games_19 : decode cX0_games 19 = .ok (.aload_n 1, 1) := dk_43 (dk_at dksX0_games_0 19 rfl rfl)
theorem dX0_games_20 : decode cX0_games 20 = .ok (.iload_n 3, 1) := dk_29 (dk_at dksX0_games_0 20 rfl rfl)
theorem dX0_games_21 : decode cX0_games 21 = .ok (.invokeinterface 97 2, 5) := by decide +kernel
theorem dX0_games_26 : decode cX0_games 26 = .ok (.checkcast 16, 3) := dk_192 0 16 (dk_at dksX0_games_1 5 rfl rfl)
theorem dX0_games_29 : decode cX0_games 29 = .ok (.invokevirtual 64, 3) := dk_182 0 64 (dk_at dksX0_games_1 8 rfl rfl)
theorem dX0_games_32 : decode cX0_games 32 = .ok (.invokestatic 60, 3) := dk_184 0 60 (dk_at dksX0_games_1 11 rfl rfl)
theorem dX0_games_35 : decode cX0_games 35 = .ok (.iinc 3 1, 3) := dk_132 3 1 (dk_at dksX0_games_1 14 rfl rfl)
theorem dX0_games_38 : decode cX0_games 38 = .ok (.goto (-31), 3) := dk_167 255 225 (dk_at dksX0_games_1 17 rfl rfl)
theorem dX0_games_41 : decode cX0_games 41 = .ok (.aload_n 2, 1) := dk_44 (dk_at dksX0_games_1 20 rfl rfl)
theorem dX0_games_42 : decode cX0_games 42 = .ok (.areturn, 1) := dk_176 (dk_at dksX0_games_1 21 rfl rfl)
abbrev cX0_sum : ByteArray := prog_1_method_3_code
def yX0_sum : MethodName := ⟨RX0, "sum", "(LGameCalculator$Form;LGameCalculator$Form;)LGameCalculator$Form;"⟩
def dkwX0_sum_5 : List UInt8 := [180, 0, 15, 4, 100, 50, 44, 180, 0, 15, 4, 100, 50, 182, 0, 42, 176]
abbrev dktX0_sum_5 : List UInt8 := dkwX0_sum_5 ++ []
def dkwX0_sum_4 : List UInt8 := [182, 0, 38, 83, 132, 5, 1, 167, 255, 200, 132, 4, 1, 167, 255, 182, 45, 42, 180, 0, 30, 43]
abbrev dktX0_sum_4 : List UInt8 := dkwX0_sum_4 ++ dktX0_sum_5
def dkwX0_sum_3 : List UInt8 := [42, 180, 0, 30, 182, 0, 34, 42, 43, 44, 21, 4, 21, 5, 4, 42, 180, 0, 30, 182, 0, 34]
abbrev dktX0_sum_3 : List UInt8 := dkwX0_sum_3 ++ dktX0_sum_4
def dkwX0_sum_2 : List UInt8 := [180, 0, 15, 162, 0, 53, 42, 180, 0, 30, 21, 4, 50, 21, 5, 45, 42, 43, 44, 21, 4, 21, 5, 3]
abbrev dktX0_sum_2 : List UInt8 := dkwX0_sum_2 ++ dktX0_sum_3
def dkwX0_sum_1 : List UInt8 := [182, 0, 26, 78, 3, 54, 4, 21, 4, 43, 180, 0, 15, 162, 0, 71, 3, 54, 5, 21, 5, 44]
abbrev dktX0_sum_1 : List UInt8 := dkwX0_sum_1 ++ dktX0_sum_2
def dkwX0_sum_0 : List UInt8 := [43, 180, 0, 15, 44, 180, 0, 15, 104, 17, 0, 200, 164, 0, 11, 187, 0, 21, 89, 183, 0, 23, 191, 42]
abbrev dktX0_sum_0 : List UInt8 := dkwX0_sum_0 ++ dktX0_sum_1
theorem dksX0_sum_0 : cX0_sum.data.toList.drop 0 = dktX0_sum_0 := by decide +kernel
theorem dksX0_sum_1 : cX0_sum.data.toList.drop 24 = dktX0_sum_1 := dk_seg dksX0_sum_0 24 rfl rfl
theorem dksX0_sum_2 : cX0_sum.data.toList.drop 46 = dktX0_sum_2 := dk_seg dksX0_sum_1 22 rfl rfl
theorem dksX0_sum_3 : cX0_sum.data.toList.drop 70 = dktX0_sum_3 := dk_seg dksX0_sum_2 24 rfl rfl
theorem dksX0_sum_4 : cX0_sum.data.toList.drop 92 = dktX0_sum_4 := dk_seg dksX0_sum_3 22 rfl rfl
theorem dksX0_sum_5 : cX0_sum.data.toList.drop 114 = dktX0_sum_5 := dk_seg dksX0_sum_4 22 rfl rfl
theorem dX0_sum_0 : decode cX0_sum 0 = .ok (.aload_n 1, 1) := dk_43 (dk_at dksX0_sum_0 0 rfl rfl)
theorem dX0_sum_1 : decode cX0_sum 1 = .ok (.getfield 15, 3) := dk_180 0 15 (dk_at dksX0_sum_0 1 rfl rfl)
theorem dX0_sum_4 : decode cX0_sum 4 = .ok (.aload_n 2, 1) := dk_44 (dk_at dksX0_sum_0 4 rfl rfl)
theorem dX0_sum_5 : decode cX0_sum 5 = .ok (.getfield 15, 3) := dk_180 0 15 (dk_at dksX0_sum_0 5 rfl rfl)
theorem dX0_sum_8 : decode cX0_sum 8 = .ok (.imul, 1) := dk_104 (dk_at dksX0_sum_0 8 rfl rfl)
theorem dX0_sum_9 : decode cX0_sum 9 = .ok (.sipush 200, 3) := dk_17 0 200 (dk_at dksX0_sum_0 9 rfl rfl)
theorem dX0_sum_12 : decode cX0_sum 12 = .ok (.if_icmp .le 11, 3) := dk_164 0 11 (dk_at dksX0_sum_0 12 rfl rfl)
theorem dX0_sum_15 : decode cX0_sum 15 = .ok (.new 21, 3) := dk_187 0 21 (dk_at dksX0_sum_0 15 rfl rfl)
theorem dX0_sum_18 : decode cX0_sum 18 = .ok (.dup, 1) := dk_89 (dk_at dksX0_sum_0 18 rfl rfl)
theorem dX0_sum_19 : decode cX0_sum 19 = .ok (.invokespecial 23, 3) := dk_183 0 23 (dk_at dksX0_sum_0 19 rfl rfl)
theorem dX0_sum_22 : decode cX0_sum 22 = .ok (.athrow, 1) := dk_191 (dk_at dksX0_sum_0 22 rfl rfl)
theorem dX0_sum_23 : decode cX0_sum 23 = .ok (.aload_n 0, 1) := dk_42 (dk_at dksX0_sum_0 23 rfl rfl)
theorem dX0_sum_24 : decode cX0_sum 24 = .ok (.invokevirtual 26, 3) := dk_182 0 26 (dk_at dksX0_sum_1 0 rfl rfl)
theorem dX0_sum_27 : decode cX0_sum 27 = .ok (.astore_n 3, 1) := dk_78 (dk_at dksX0_sum_1 3 rfl rfl)
theorem dX0_sum_28 : decode cX0_sum 28 = .ok (.iconst 0, 1) := dk_3 (dk_at dksX0_sum_1 4 rfl rfl)
theorem dX0_sum_29 : decode cX0_sum 29 = .ok (.istore 4, 2) := dk_54 4 (dk_at dksX0_sum_1 5 rfl rfl)
theorem dX0_sum_31 : decode cX0_sum 31 = .ok (.iload 4, 2) := dk_21 4 (dk_at dksX0_sum_1 7 rfl rfl)
theorem dX0_sum_33 : decode cX0_sum 33 = .ok (.aload_n 1, 1) := dk_43 (dk_at dksX0_sum_1 9 rfl rfl)
theorem dX0_sum_34 : decode cX0_sum 34 = .ok (.getfield 15, 3) := dk_180 0 15 (dk_at dksX0_sum_1 10 rfl rfl)
theorem dX0_sum_37 : decode cX0_sum 37 = .ok (.if_icmp .ge 71, 3) := dk_162 0 71 (dk_at dksX0_sum_1 13 rfl rfl)
theorem dX0_sum_40 : decode cX0_sum 40 = .ok (.iconst 0, 1) := dk_3 (dk_at dksX0_sum_1 16 rfl rfl)
theorem dX0_sum_41 : decode cX0_sum 41 = .ok (.istore 5, 2) := dk_54 5 (dk_at dksX0_sum_1 17 rfl rfl)
theorem dX0_sum_43 : decode cX0_sum 43 = .ok (.iload 5, 2) := dk_21 5 (dk_at dksX0_sum_1 19 rfl rfl)
theorem dX0_sum_45 : decode cX0_sum 45 = .ok (.aload_n 2, 1) := dk_44 (dk_at dksX0_sum_1 21 rfl rfl)
theorem dX0_sum_46 : decode cX0_sum 46 = .ok (.getfield 15, 3) := dk_180 0 15 (dk_at dksX0_sum_2 0 rfl rfl)
theorem dX0_sum_49 : decode cX0_sum 49 = .ok (.if_icmp .ge 53, 3) := dk_162 0 53 (dk_at dksX0_sum_2 3 rfl rfl)
theorem dX0_sum_52 : decode cX0_sum 52 = .ok (.aload_n 0, 1) := dk_42 (dk_at dksX0_sum_2 6 rfl rfl)
theorem dX0_sum_53 : decode cX0_sum 53 = .ok (.getfield 30, 3) := dk_180 0 30 (dk_at dksX0_sum_2 7 rfl rfl)
theorem dX0_sum_56 : decode cX0_sum 56 = .ok (.iload 4, 2) := dk_21 4 (dk_at dksX0_sum_2 10 rfl rfl)
theorem dX0_sum_58 : decode cX0_sum 58 = .ok (.aaload, 1) := dk_50 (dk_at dksX0_sum_2 12 rfl rfl)
theorem dX0_sum_59 : decode cX0_sum 59 = .ok (.iload 5, 2) := dk_21 5 (dk_at dksX0_sum_2 13 rfl rfl)
theorem dX0_sum_61 : decode cX0_sum 61 = .ok (.aload_n 3, 1) := dk_45 (dk_at dksX0_sum_2 15 rfl rfl)
theorem dX0_sum_62 : decode cX0_sum 62 = .ok (.aload_n 0, 1) := dk_42 (dk_at dksX0_sum_2 16 rfl rfl)
theorem dX0_sum_63 : decode cX0_sum 63 = .ok (.aload_n 1, 1) := dk_43 (dk_at dksX0_sum_2 17 rfl rfl)
theorem dX0_sum_64 : decode cX0_sum 64 = .ok (.aload_n 2, 1) := dk_44 (dk_at dksX0_sum_2 18 rfl rfl)
theorem dX0_sum_65 : decode cX0_sum 65 = .ok (.iload 4, 2) := dk_21 4 (dk_at dksX0_sum_2 19 rfl rfl)
theorem dX0_sum_67 : decode cX0_sum 67 = .ok (.iload 5, 2) := dk_21 5 (dk_at dksX0_sum_2 21 rfl rfl)
theorem dX0_sum_69 : decode cX0_sum 69 = .ok (.iconst 0, 1) := dk_3 (dk_at dksX0_sum_2 23 rfl rfl)
theorem dX0_sum_70 : decode cX0_sum 70 = .ok (.aload_n 0, 1) := dk_42 (dk_at dksX0_sum_3 0 rfl rfl)
theorem dX0_sum_71 : decode cX0_sum 71 = .ok (.getfield 30, 3) := dk_180 0 30 (dk_at dksX0_sum_3 1 rfl rfl)
theorem dX0_sum_74 : decode cX0_sum 74 = .ok (.invokevirtual 34, 3) := dk_182 0 34 (dk_at dksX0_sum_3 4 rfl rfl)
theorem dX0_sum_77 : decode cX0_sum 77 = .ok (.aload_n 0, 1) := dk_42 (dk_at dksX0_sum_3 7 rfl rfl)
theorem dX0_sum_78 : decode cX0_sum 78 = .ok (.aload_n 1, 1) := dk_43 (dk_at dksX0_sum_3 8 rfl rfl)
theorem dX0_sum_79 : decode cX0_sum 79 = .ok (.aload_n 2, 1) := dk_44 (dk_at dksX0_sum_3 9 rfl rfl)
theorem dX0_sum_80 : decode cX0_sum 80 = .ok (.iload 4, 2) := dk_21 4 (dk_at dksX0_sum_3 10 rfl rfl)
theorem dX0_sum_82 : decode cX0_sum 82 = .ok (.iload 5, 2) := dk_21 5 (dk_at dksX0_sum_3 12 rfl rfl)
theorem dX0_sum_84 : decode cX0_sum 84 = .ok (.iconst 1, 1) := dk_4 (dk_at dksX0_sum_3 14 rfl rfl)
theorem dX0_sum_85 : decode cX0_sum 85 = .ok (.aload_n 0, 1) := dk_42 (dk_at dksX0_sum_3 15 rfl rfl)
theorem dX0_sum_86 : decode cX0_sum 86 = .ok (.getfield 30, 3) := dk_180 0 30 (dk_at dksX0_sum_3 16 rfl rfl)
theorem dX0_sum_89 : decode cX0_sum 89 = .ok (.invokevirtual 34, 3) := dk_182 0 34 (dk_at dksX0_sum_3 19 rfl rfl)
theorem dX0_sum_92 : decode cX0_sum 92 = .ok (.invokevirtual 38, 3) := dk_182 0 38 (dk_at dksX0_sum_4 0 rfl rfl)
theorem dX0_sum_95 : decode cX0_sum 95 = .ok (.aastore, 1) := dk_83 (dk_at dksX0_sum_4 3 rfl rfl)
theorem dX0_sum_96 : decode cX0_sum 96 = .ok (.iinc 5 1, 3) := dk_132 5 1 (dk_at dksX0_sum_4 4 rfl rfl)
theorem dX0_sum_99 : decode cX0_sum 99 = .ok (.goto (-56), 3) := dk_167 255 200 (dk_at dksX0_sum_4 7 rfl rfl)
theorem dX0_sum_102 : decode cX0_sum 102 = .ok (.iinc 4 1, 3) := dk_132 4 1 (dk_at dksX0_sum_4 10 rfl rfl)
theorem dX0_sum_105 : decode cX0_sum 105 = .ok (.goto (-74), 3) := dk_167 255 182 (dk_at dksX0_sum_4 13 rfl rfl)
theorem dX0_sum_108 : decode cX0_sum 108 = .ok (.aload_n 3, 1) := dk_45 (dk_at dksX0_sum_4 16 rfl rfl)
theorem dX0_sum_109 : decode cX0_sum 109 = .ok (.aload_n 0, 1) := dk_42 (dk_at dksX0_sum_4 17 rfl rfl)
theorem dX0_sum_110 : decode cX0_sum 110 = .ok (.getfield 30, 3) := dk_180 0 30 (dk_at dksX0_sum_4 18 rfl rfl)
theorem dX0_sum_113 : decode cX0_sum 113 = .ok (.aload_n 1, 1) := dk_43 (dk_at dksX0_sum_4 21 rfl rfl)
theorem dX0_sum_114 : decode cX0_sum 114 = .ok (.getfield 15, 3) := dk_180 0 15 (dk_at dksX0_sum_5 0 rfl rfl)
theorem dX0_sum_117 : decode cX0_sum 117 = .ok (.iconst 1, 1) := dk_4 (dk_at dksX0_sum_5 3 rfl rfl)
theorem dX0_sum_118 : decode cX0_sum 118 = .ok (.isub, 1) := dk_100 (dk_at dksX0_sum_5 4 rfl rfl)
theorem dX0_sum_119 : decode cX0_sum 119 = .ok (.aaload, 1) := dk_50 (dk_at dksX0_sum_5 5 rfl rfl)
theorem dX0_sum_120 : decode cX0_sum 120 = .ok (.aload_n 2, 1) := dk_44 (dk_at dksX0_sum_5 6 rfl rfl)
theorem dX0_sum_121 : decode cX0_sum 121 = .ok (.getfield 15, 3) := dk_180 0 15 (dk_at dksX0_sum_5 7 rfl rfl)
theorem dX0_sum_124 : decode cX0_sum 124 = .ok (.iconst 1, 1) := dk_4 (dk_at dksX0_sum_5 10 rfl rfl)
theorem dX0_sum_125 : decode cX0_sum 125 = .ok (.isub, 1) := dk_100 (dk_at dksX0_sum_5 11 rfl rfl)
theorem dX0_sum_126 : decode cX0_sum 126 = .ok (.aaload, 1) := dk_50 (dk_at dksX0_sum_5 12 rfl rfl)
theorem dX0_sum_127 : decode cX0_sum 127 = .ok (.invokevirtual 42, 3) := dk_182 0 42 (dk_at dksX0_sum_5 13 rfl rfl)
theorem dX0_sum_130 : decode cX0_sum 130 = .ok (.areturn, 1) := dk_176 (dk_at dksX0_sum_5 16 rfl rfl)
abbrev cX0_sumOptions : ByteArray := prog_1_method_4_code
def yX0_sumOptions : MethodName := ⟨RX0, "sumOptions", "(LGameCalculator$Form;LGameCalculator$Form;III[[LGameCalculator$Game;)Ljava/util/List;"⟩
def dkwX0_sumOptions_4 : List UInt8 := [25, 7, 176]
abbrev dktX0_sumOptions_4 : List UInt8 := dkwX0_sumOptions_4 ++ []
def dkwX0_sumOptions_3 : List UInt8 := [29, 50, 21, 8, 184, 0, 54, 50, 184, 0, 60, 21, 8, 21, 8, 4, 100, 126, 54, 8, 167, 255, 227]
abbrev dktX0_sumOptions_3 : List UInt8 := dkwX0_sumOptions_3 ++ dktX0_sumOptions_4
def dkwX0_sumOptions_2 : List UInt8 := [54, 8, 167, 255, 226, 44, 21, 4, 21, 5, 182, 0, 50, 54, 8, 21, 8, 153, 0, 30, 25, 7, 25, 6]
abbrev dktX0_sumOptions_2 : List UInt8 := dkwX0_sumOptions_2 ++ dktX0_sumOptions_3
def dkwX0_sumOptions_1 : List UInt8 := [25, 7, 25, 6, 21, 8, 184, 0, 54, 50, 21, 4, 50, 184, 0, 60, 21, 8, 21, 8, 4, 100, 126]
abbrev dktX0_sumOptions_1 : List UInt8 := dkwX0_sumOptions_1 ++ dktX0_sumOptions_2
def dkwX0_sumOptions_0 : List UInt8 := [42, 180, 0, 5, 182, 0, 46, 58, 7, 43, 29, 21, 5, 182, 0, 50, 54, 8, 21, 8, 153, 0, 31]
abbrev dktX0_sumOptions_0 : List UInt8 := dkwX0_sumOptions_0 ++ dktX0_sumOptions_1
theorem dksX0_sumOptions_0 : cX0_sumOptions.data.toList.drop 0 = dktX0_sumOptions_0 := by decide +kernel
theorem dksX0_sumOptions_1 : cX0_sumOptions.data.toList.drop 23 = dktX0_sumOptions_1 := dk_seg dksX0_sumOptions_0 23 rfl rfl
theorem dksX0_sumOptions_2 : cX0_sumOptions.data.toList.drop 46 = dktX0_sumOptions_2 := dk_seg dksX0_sumOptions_1 23 rfl rfl
theorem dksX0_sumOptions_3 : cX0_sumOptions.data.toList.drop 70 = dktX0_sumOptions_3 := dk_seg dksX0_sumOptions_2 24 rfl rfl
theorem dksX0_sumOptions_4 : cX0_sumOptions.data.toList.drop 93 = dktX0_sumOptions_4 := dk_seg dksX0_sumOptions_3 23 rfl rfl
theorem dX0_sumOptions_0 : decode cX0_sumOptions 0 = .ok (.aload_n 0, 1) := dk_42 (dk_at dksX0_sumOptions_0 0 rfl rfl)
theorem dX0_sumOptions_1 : decode cX0_sumOptions 1 = .ok (.getfield 5, 3) := dk_180 0 5 (dk_at dksX0_sumOptions_0 1 rfl rfl)
theorem dX0_sumOptions_4 : decode cX0_sumOptions 4 = .ok (.invokevirtual 46, 3) := dk_182 0 46 (dk_at dksX0_sumOptions_0 4 rfl rfl)
theorem dX0_sumOptions_7 : decode cX0_sumOptions 7 = .ok (.astore 7, 2) := dk_58 7 (dk_at dksX0_sumOptions_0 7 rfl rfl)
theorem dX0_sumOptions_9 : decode cX0_sumOptions 9 = .ok (.aload_n 1, 1) := dk_43 (dk_at dksX0_sumOptions_0 9 rfl rfl)
theorem dX0_sumOptions_10 : decode cX0_sumOptions 10 = .ok (.iload_n 3, 1) := dk_29 (dk_at dksX0_sumOptions_0 10 rfl rfl)
theorem dX0_sumOptions_11 : decode cX0_sumOptions 11 = .ok (.iload 5, 2) := dk_21 5 (dk_at dksX0_sumOptions_0 11 rfl rfl)
theorem dX0_sumOptions_13 : decode cX0_sumOptions 13 = .ok (.invokevirtual 50, 3) := dk_182 0 50 (dk_at dksX0_sumOptions_0 13 rfl rfl)
theorem dX0_sumOptions_16 : decode cX0_sumOptions 16 = .ok (.istore 8, 2) := dk_54 8 (dk_at dksX0_sumOptions_0 16 rfl rfl)
theorem dX0_sumOptions_18 : decode cX0_sumOptions 18 = .ok (.iload 8, 2) := dk_21 8 (dk_at dksX0_sumOptions_0 18 rfl rfl)
theorem dX0_sumOptions_20 : decode cX0_sumOptions 20 = .ok (.ifCond .eq 31, 3) := dk_153 0 31 (dk_at dksX0_sumOptions_0 20 rfl rfl)
theorem dX0_sumOptions_23 : decode cX0_sumOptions 23 = .ok (.aload 7, 2) := dk_25 7 (dk_at dksX0_sumOptions_1 0 rfl rfl)
theorem dX0_sumOptions_25 : decode cX0_sumOptions 25 = .ok (.aload 6, 2) := dk_25 6 (dk_at dksX0_sumOptions_1 2 rfl rfl)
theorem dX0_sumOptions_27 : decode cX0_sumOptions 27 = .ok (.iload 8, 2) := dk_21 8 (dk_at dksX0_sumOptions_1 4 rfl rfl)
theorem dX0_sumOptions_29 : decode cX0_sumOptions 29 = .ok (.invokestatic 54, 3) := dk_184 0 54 (dk_at dksX0_sumOptions_1 6 rfl rfl)
theorem dX0_sumOptions_32 : decode cX0_sumOptions 32 = .ok (.aaload, 1) := dk_50 (dk_at dksX0_sumOptions_1 9 rfl rfl)
theorem dX0_sumOptions_33 : decode cX0_sumOptions 33 = .ok (.iload 4, 2) := dk_21 4 (dk_at dksX0_sumOptions_1 10 rfl rfl)
theorem dX0_sumOptions_35 : decode cX0_sumOptions 35 = .ok (.aaload, 1) := dk_50 (dk_at dksX0_sumOptions_1 12 rfl rfl)
theorem dX0_sumOptions_36 : decode cX0_sumOptions 36 = .ok (.invokestatic 60, 3) := dk_184 0 60 (dk_at dksX0_sumOptions_1 13 rfl rfl)
theorem dX0_sumOptions_39 : decode cX0_sumOptions 39 = .ok (.iload 8, 2) := dk_21 8 (dk_at dksX0_sumOptions_1 16 rfl rfl)
theorem dX0_sumOptions_41 : decode cX0_sumOptions 41 = .ok (.iload 8, 2) := dk_21 8 (dk_at dksX0_sumOptions_1 18 rfl rfl)
theorem dX0_sumOptions_43 : decode cX0_sumOptions 43 = .ok (.iconst 1, 1) := dk_4 (dk_at dksX0_sumOptions_1 20 rfl rfl)
theorem dX0_sumOptions_44 : decode cX0_sumOptions 44 = .ok (.isub, 1) := dk_100 (dk_at dksX0_sumOptions_1 21 rfl rfl)
theorem dX0_sumOptions_45 : decode cX0_sumOptions 45 = .ok (.iand, 1) := dk_126 (dk_at dksX0_sumOptions_1 22 rfl rfl)
theorem dX0_sumOptions_46 : decode cX0_sumOptions 46 = .ok (.istore 8, 2) := dk_54 8 (dk_at dksX0_sumOptions_2 0 rfl rfl)
theorem dX0_sumOptions_48 : decode cX0_sumOptions 48 = .ok (.goto (-30), 3) := dk_167 255 226 (dk_at dksX0_sumOptions_2 2 rfl rfl)
theorem dX0_sumOptions_51 : decode cX0_sumOptions 51 = .ok (.aload_n 2, 1) := dk_44 (dk_at dksX0_sumOptions_2 5 rfl rfl)
theorem dX0_sumOptions_52 : decode cX0_sumOptions 52 = .ok (.iload 4, 2) := dk_21 4 (dk_at dksX0_sumOptions_2 6 rfl rfl)
theorem dX0_sumOptions_54 : decode cX0_sumOptions 54 = .ok (.iload 5, 2) := dk_21 5 (dk_at dksX0_sumOptions_2 8 rfl rfl)
theorem dX0_sumOptions_56 : decode cX0_sumOptions 56 = .ok (.invokevirtual 50, 3) := dk_182 0 50 (dk_at dksX0_sumOptions_2 10 rfl rfl)
theorem dX0_sumOptions_59 : decode cX0_sumOptions 59 = .ok (.istore 8, 2) := dk_54 8 (dk_at dksX0_sumOptions_2 13 rfl rfl)
theorem dX0_sumOptions_61 : decode cX0_sumOptions 61 = .ok (.iload 8, 2) := dk_21 8 (dk_at dksX0_sumOptions_2 15 rfl rfl)
theorem dX0_sumOptions_63 : decode cX0_sumOptions 63 = .ok (.ifCond .eq 30, 3) := dk_153 0 30 (dk_at dksX0_sumOptions_2 17 rfl rfl)
theorem dX0_sumOptions_66 : decode cX0_sumOptions 66 = .ok (.aload 7, 2) := dk_25 7 (dk_at dksX0_sumOptions_2 20 rfl rfl)
theorem dX0_sumOptions_68 : decode cX0_sumOptions 68 = .ok (.aload 6, 2) := dk_25 6 (dk_at dksX0_sumOptions_2 22 rfl rfl)
theorem dX0_sumOptions_70 : decode cX0_sumOptions 70 = .ok (.iload_n 3, 1) := dk_29 (dk_at dksX0_sumOptions_3 0 rfl rfl)
theorem dX0_sumOptions_71 : decode cX0_sumOptions 71 = .ok (.aaload, 1) := dk_50 (dk_at dksX0_sumOptions_3 1 rfl rfl)
theorem dX0_sumOptions_72 : decode cX0_sumOptions 72 = .ok (.iload 8, 2) := dk_21 8 (dk_at dksX0_sumOptions_3 2 rfl rfl)
theorem dX0_sumOptions_74 : decode cX0_sumOptions 74 = .ok (.invokestatic 54, 3) := dk_184 0 54 (dk_at dksX0_sumOptions_3 4 rfl rfl)
theorem dX0_sumOptions_77 : decode cX0_sumOptions 77 = .ok (.aaload, 1) := dk_50 (dk_at dksX0_sumOptions_3 7 rfl rfl)
theorem dX0_sumOptions_78 : decode cX0_sumOptions 78 = .ok (.invokestatic 60, 3) := dk_184 0 60 (dk_at dksX0_sumOptions_3 8 rfl rfl)
theorem dX0_sumOptions_81 : decode cX0_sumOptions 81 = .ok (.iload 8, 2) := dk_21 8 (dk_at dksX0_sumOptions_3 11 rfl rfl)
theorem dX0_sumOptions_83 : decode cX0_sumOptions 83 = .ok (.iload 8, 2) := dk_21 8 (dk_at dksX0_sumOptions_3 13 rfl rfl)
theorem dX0_sumOptions_85 : decode cX0_sumOptions 85 = .ok (.iconst 1, 1) := dk_4 (dk_at dksX0_sumOptions_3 15 rfl rfl)
theorem dX0_sumOptions_86 : decode cX0_sumOptions 86 = .ok (.isub, 1) := dk_100 (dk_at dksX0_sumOptions_3 16 rfl rfl)
theorem dX0_sumOptions_87 : decode cX0_sumOptions 87 = .ok (.iand, 1) := dk_126 (dk_at dksX0_sumOptions_3 17 rfl rfl)
theorem dX0_sumOptions_88 : decode cX0_sumOptions 88 = .ok (.istore 8, 2) := dk_54 8 (dk_at dksX0_sumOptions_3 18 rfl rfl)
theorem dX0_sumOptions_90 : decode cX0_sumOptions 90 = .ok (.goto (-29), 3) := dk_167 255 227 (dk_at dksX0_sumOptions_3 20 rfl rfl)
theorem dX0_sumOptions_93 : decode cX0_sumOptions 93 = .ok (.aload 7, 2) := dk_25 7 (dk_at dksX0_sumOptions_4 0 rfl rfl)
theorem dX0_sumOptions_95 : decode cX0_sumOptions 95 = .ok (.areturn, 1) := dk_176 (dk_at dksX0_sumOptions_4 2 rfl rfl)
abbrev cX0_negative : ByteArray := prog_1_method_8_code
def yX0_negative : MethodName := ⟨RX0, "negative", "(LGameCalculator$Form;)LGameCalculator$Form;"⟩
def dkwX0_negative_3 : List UInt8 := [180, 0, 15, 4, 100, 50, 182, 0, 42, 176]
abbrev dktX0_negative_3 : List UInt8 := dkwX0_negative_3 ++ []
def dkwX0_negative_2 : List UInt8 := [180, 0, 81, 21, 4, 46, 182, 0, 101, 182, 0, 38, 83, 132, 4, 1, 167, 255, 212, 44, 45, 43]
abbrev dktX0_negative_2 : List UInt8 := dkwX0_negative_2 ++ dktX0_negative_3
def dkwX0_negative_1 : List UInt8 := [162, 0, 41, 45, 21, 4, 44, 44, 45, 43, 180, 0, 88, 21, 4, 46, 182, 0, 101, 44, 45, 43]
abbrev dktX0_negative_1 : List UInt8 := dkwX0_negative_1 ++ dktX0_negative_2
def dkwX0_negative_0 : List UInt8 := [42, 182, 0, 26, 77, 43, 180, 0, 15, 189, 0, 68, 78, 3, 54, 4, 21, 4, 43, 180, 0, 15]
abbrev dktX0_negative_0 : List UInt8 := dkwX0_negative_0 ++ dktX0_negative_1
theorem dksX0_negative_0 : cX0_negative.data.toList.drop 0 = dktX0_negative_0 := by decide +kernel
theorem dksX0_negative_1 : cX0_negative.data.toList.drop 22 = dktX0_negative_1 := dk_seg dksX0_negative_0 22 rfl rfl
theorem dksX0_negative_2 : cX0_negative.data.toList.drop 44 = dktX0_negative_2 := dk_seg dksX0_negative_1 22 rfl rfl
theorem dksX0_negative_3 : cX0_negative.data.toList.drop 66 = dktX0_negative_3 := dk_seg dksX0_negative_2 22 rfl rfl
theorem dX0_negative_0 : decode cX0_negative 0 = .ok (.aload_n 0, 1) := dk_42 (dk_at dksX0_negative_0 0 rfl rfl)
theorem dX0_negative_1 : decode cX0_negative 1 = .ok (.invokevirtual 26, 3) := dk_182 0 26 (dk_at dksX0_negative_0 1 rfl rfl)
theorem dX0_negative_4 : decode cX0_negative 4 = .ok (.astore_n 2, 1) := dk_77 (dk_at dksX0_negative_0 4 rfl rfl)
theorem dX0_negative_5 : decode cX0_negative 5 = .ok (.aload_n 1, 1) := dk_43 (dk_at dksX0_negative_0 5 rfl rfl)
theorem dX0_negative_6 : decode cX0_negative 6 = .ok (.getfield 15, 3) := dk_180 0 15 (dk_at dksX0_negative_0 6 rfl rfl)
theorem dX0_negative_9 : decode cX0_negative 9 = .ok (.anewarray 68, 3) := dk_189 0 68 (dk_at dksX0_negative_0 9 rfl rfl)
theorem dX0_negative_12 : decode cX0_negative 12 = .ok (.astore_n 3, 1) := dk_78 (dk_at dksX0_negative_0 12 rfl rfl)
theorem dX0_negative_13 : decode cX0_negative 13 = .ok (.iconst 0, 1) := dk_3 (dk_at dksX0_negative_0 13 rfl rfl)
theorem dX0_negative_14 : decode cX0_negative 14 = .ok (.istore 4, 2) := dk_54 4 (dk_at dksX0_negative_0 14 rfl rfl)
theorem dX0_negative_16 : decode cX0_negative 16 = .ok (.iload 4, 2) := dk_21 4 (dk_at dksX0_negative_0 16 rfl rfl)
theorem dX0_negative_18 : decode cX0_negative 18 = .ok (.aload_n 1, 1) := dk_43 (dk_at dksX0_negative_0 18 rfl rfl)
theorem dX0_negative_19 : decode cX0_negative 19 = .ok (.getfield 15, 3) := dk_180 0 15 (dk_at dksX0_negative_0 19 rfl rfl)
theorem dX0_negative_22 : decode cX0_negative 22 = .ok (.if_icmp .ge 41, 3) := dk_162 0 41 (dk_at dksX0_negative_1 0 rfl rfl)
theorem dX0_negative_25 : decode cX0_negative 25 = .ok (.aload_n 3, 1) := dk_45 (dk_at dksX0_negative_1 3 rfl rfl)
theorem dX0_negative_26 : decode cX0_negative 26 = .ok (.iload 4, 2) := dk_21 4 (dk_at dksX0_negative_1 4 rfl rfl)
theorem dX0_negative_28 : decode cX0_negative 28 = .ok (.aload_n 2, 1) := dk_44 (dk_at dksX0_negative_1 6 rfl rfl)
theorem dX0_negative_29 : decode cX0_negative 29 = .ok (.aload_n 2, 1) := dk_44 (dk_at dksX0_negative_1 7 rfl rfl)
theorem dX0_negative_30 : decode cX0_negative 30 = .ok (.aload_n 3, 1) := dk_45 (dk_at dksX0_negative_1 8 rfl rfl)
theorem dX0_negative_31 : decode cX0_negative 31 = .ok (.aload_n 1, 1) := dk_43 (dk_at dksX0_negative_1 9 rfl rfl)
theorem dX0_negative_32 : decode cX0_negative 32 = .ok (.getfield 88, 3) := dk_180 0 88 (dk_at dksX0_negative_1 10 rfl rfl)
theorem dX0_negative_35 : decode cX0_negative 35 = .ok (.iload 4, 2) := dk_21 4 (dk_at dksX0_negative_1 13 rfl rfl)
theorem dX0_negative_37 : decode cX0_negative 37 = .ok (.iaload, 1) := dk_46 (dk_at dksX0_negative_1 15 rfl rfl)
theorem dX0_negative_38 : decode cX0_negative 38 = .ok (.invokevirtual 101, 3) := dk_182 0 101 (dk_at dksX0_negative_1 16 rfl rfl)
theorem dX0_negative_41 : decode cX0_negative 41 = .ok (.aload_n 2, 1) := dk_44 (dk_at dksX0_negative_1 19 rfl rfl)
theorem dX0_negative_42 : decode cX0_negative 42 = .ok (.aload_n 3, 1) := dk_45 (dk_at dksX0_negative_1 20 rfl rfl)
theorem dX0_negative_43 : decode cX0_negative 43 = .ok (.aload_n 1, 1) := dk_43 (dk_at dksX0_negative_1 21 rfl rfl)
theorem dX0_negative_44 : decode cX0_negative 44 = .ok (.getfield 81, 3) := dk_180 0 81 (dk_at dksX0_negative_2 0 rfl rfl)
theorem dX0_negative_47 : decode cX0_negative 47 = .ok (.iload 4, 2) := dk_21 4 (dk_at dksX0_negative_2 3 rfl rfl)
theorem dX0_negative_49 : decode cX0_negative 49 = .ok (.iaload, 1) := dk_46 (dk_at dksX0_negative_2 5 rfl rfl)
theorem dX0_negative_50 : decode cX0_negative 50 = .ok (.invokevirtual 101, 3) := dk_182 0 101 (dk_at dksX0_negative_2 6 rfl rfl)
theorem dX0_negative_53 : decode cX0_negative 53 = .ok (.invokevirtual 38, 3) := dk_182 0 38 (dk_at dksX0_negative_2 9 rfl rfl)
theorem dX0_negative_56 : decode cX0_negative 56 = .ok (.aastore, 1) := dk_83 (dk_at dksX0_negative_2 12 rfl rfl)
theorem dX0_negative_57 : decode cX0_negative 57 = .ok (.iinc 4 1, 3) := dk_132 4 1 (dk_at dksX0_negative_2 13 rfl rfl)
theorem dX0_negative_60 : decode cX0_negative 60 = .ok (.goto (-44), 3) := dk_167 255 212 (dk_at dksX0_negative_2 16 rfl rfl)
theorem dX0_negative_63 : decode cX0_negative 63 = .ok (.aload_n 2, 1) := dk_44 (dk_at dksX0_negative_2 19 rfl rfl)
theorem dX0_negative_64 : decode cX0_negative 64 = .ok (.aload_n 3, 1) := dk_45 (dk_at dksX0_negative_2 20 rfl rfl)
theorem dX0_negative_65 : decode cX0_negative 65 = .ok (.aload_n 1, 1) := dk_43 (dk_at dksX0_negative_2 21 rfl rfl)
theorem dX0_negative_66 : decode cX0_negative 66 = .ok (.getfield 15, 3) := dk_180 0 15 (dk_at dksX0_negative_3 0 rfl rfl)
theorem dX0_negative_69 : decode cX0_negative 69 = .ok (.iconst 1, 1) := dk_4 (dk_at dksX0_negative_3 3 rfl rfl)
theorem dX0_negative_70 : decode cX0_negative 70 = .ok (.isub, 1) := dk_100 (dk_at dksX0_negative_3 4 rfl rfl)
theorem dX0_negative_71 : decode cX0_negative 71 = .ok (.aaload, 1) := dk_50 (dk_at dksX0_negative_3 5 rfl rfl)
theorem dX0_negative_72 : decode cX0_negative 72 = .ok (.invokevirtual 42, 3) := dk_182 0 42 (dk_at dksX0_negative_3 6 rfl rfl)
theorem dX0_negative_75 : decode cX0_negative 75 = .ok (.areturn, 1) := dk_176 (dk_at dksX0_negative_3 9 rfl rfl)
abbrev cX0_draft : ByteArray := prog_1_method_30_code
def yX0_draft : MethodName := ⟨RX0, "draft", "(II)I"⟩
def dkwX0_draft_5 : List UInt8 := [185, 0, 91, 1, 0, 172]
abbrev dktX0_draft_5 : List UInt8 := dkwX0_draft_5 ++ []
def dkwX0_draft_4 : List UInt8 := [160, 0, 7, 19, 1, 42, 172, 45, 42, 180, 0, 217, 28, 50, 185, 0, 112, 2, 0, 87, 45]
abbrev dktX0_draft_4 : List UInt8 := dkwX0_draft_4 ++ dktX0_draft_5
def dkwX0_draft_3 : List UInt8 := [153, 0, 10, 45, 185, 0, 91, 1, 0, 172, 132, 4, 1, 167, 255, 212, 45, 185, 0, 91, 1, 0, 16, 6]
abbrev dktX0_draft_3 : List UInt8 := dkwX0_draft_3 ++ dktX0_draft_4
def dkwX0_draft_2 : List UInt8 := [162, 0, 39, 45, 21, 4, 185, 0, 97, 2, 0, 192, 0, 16, 42, 180, 0, 217, 28, 50, 182, 1, 38]
abbrev dktX0_draft_2 : List UInt8 := dkwX0_draft_2 ++ dktX0_draft_3
def dkwX0_draft_1 : List UInt8 := [180, 0, 230, 167, 0, 7, 42, 180, 0, 233, 78, 3, 54, 4, 21, 4, 45, 185, 0, 91, 1, 0]
abbrev dktX0_draft_1 : List UInt8 := dkwX0_draft_1 ++ dktX0_draft_2
def dkwX0_draft_0 : List UInt8 := [27, 184, 1, 35, 153, 0, 10, 28, 184, 0, 254, 154, 0, 7, 19, 1, 1, 172, 27, 154, 0, 10, 42]
abbrev dktX0_draft_0 : List UInt8 := dkwX0_draft_0 ++ dktX0_draft_1
theorem dksX0_draft_0 : cX0_draft.data.toList.drop 0 = dktX0_draft_0 := by decide +kernel
theorem dksX0_draft_1 : cX0_draft.data.toList.drop 23 = dktX0_draft_1 := dk_seg dksX0_draft_0 23 rfl rfl
theorem dksX0_draft_2 : cX0_draft.data.toList.drop 45 = dktX0_draft_2 := dk_seg dksX0_draft_1 22 rfl rfl
theorem dksX0_draft_3 : cX0_draft.data.toList.drop 68 = dktX0_draft_3 := dk_seg dksX0_draft_2 23 rfl rfl
theorem dksX0_draft_4 : cX0_draft.data.toList.drop 92 = dktX0_draft_4 := dk_seg dksX0_draft_3 24 rfl rfl
theorem dksX0_draft_5 : cX0_draft.data.toList.drop 113 = dktX0_draft_5 := dk_seg dksX0_draft_4 21 rfl rfl
theorem dX0_draft_0 : decode cX0_draft 0 = .ok (.iload_n 1, 1) := dk_27 (dk_at dksX0_draft_0 0 rfl rfl)
theorem dX0_draft_1 : decode cX0_draft 1 = .ok (.invokestatic 291, 3) := dk_184 1 35 (dk_at dksX0_draft_0 1 rfl rfl)
theorem dX0_draft_4 : decode cX0_draft 4 = .ok (.ifCond .eq 10, 3) := dk_153 0 10 (dk_at dksX0_draft_0 4 rfl rfl)
theorem dX0_draft_7 : decode cX0_draft 7 = .ok (.iload_n 2, 1) := dk_28 (dk_at dksX0_draft_0 7 rfl rfl)
theorem dX0_draft_8 : decode cX0_draft 8 = .ok (.invokestatic 254, 3) := dk_184 0 254 (dk_at dksX0_draft_0 8 rfl rfl)
theorem dX0_draft_11 : decode cX0_draft 11 = .ok (.ifCond .ne 7, 3) := dk_154 0 7 (dk_at dksX0_draft_0 11 rfl rfl)
theorem dX0_draft_14 : decode cX0_draft 14 = .ok (.ldc_w 257, 3) := dk_19 1 1 (dk_at dksX0_draft_0 14 rfl rfl)
theorem dX0_draft_17 : decode cX0_draft 17 = .ok (.ireturn, 1) := dk_172 (dk_at dksX0_draft_0 17 rfl rfl)
theorem dX0_draft_18 : decode cX0_draft 18 = .ok (.iload_n 1, 1) := dk_27 (dk_at dksX0_draft_0 18 rfl rfl)
theorem dX0_draft_19 : decode cX0_draft 19 = .ok (.ifCond .ne 10, 3) := dk_154 0 10 (dk_at dksX0_draft_0 19 rfl rfl)
theorem dX0_draft_22 : decode cX0_draft 22 = .ok (.aload_n 0, 1) := dk_42 (dk_at dksX0_draft_0 22 rfl rfl)
theorem dX0_draft_23 : decode cX0_draft 23 = .ok (.getfield 230, 3) := dk_180 0 230 (dk_at dksX0_draft_1 0 rfl rfl)
theorem dX0_draft_26 : decode cX0_draft 26 = .ok (.goto 7, 3) := dk_167 0 7 (dk_at dksX0_draft_1 3 rfl rfl)
theorem dX0_draft_29 : decode cX0_draft 29 = .ok (.aload_n 0, 1) := dk_42 (dk_at dksX0_draft_1 6 rfl rfl)
theorem dX0_draft_30 : decode cX0_draft 30 = .ok (.getfield 233, 3) := dk_180 0 233 (dk_at dksX0_draft_1 7 rfl rfl)
theorem dX0_draft_33 : decode cX0_draft 33 = .ok (.astore_n 3, 1) := dk_78 (dk_at dksX0_draft_1 10 rfl rfl)
theorem dX0_draft_34 : decode cX0_draft 34 = .ok (.iconst 0, 1) := dk_3 (dk_at dksX0_draft_1 11 rfl rfl)
theorem dX0_draft_35 : decode cX0_draft 35 = .ok (.istore 4, 2) := dk_54 4 (dk_at dksX0_draft_1 12 rfl rfl)
theorem dX0_draft_37 : decode cX0_draft 37 = .ok (.iload 4, 2) := dk_21 4 (dk_at dksX0_draft_1 14 rfl rfl)
theorem dX0_draft_39 : decode cX0_draft 39 = .ok (.aload_n 3, 1) := dk_45 (dk_at dksX0_draft_1 16 rfl rfl)
theorem dX0_draft_40 : decode cX0_draft 40 = .ok (.invokeinterface 91 1, 5) := by decide +kernel
theorem dX0_draft_45 : decode cX0_draft 45 = .ok (.if_icmp .ge 39, 3) := dk_162 0 39 (dk_at dksX0_draft_2 0 rfl rfl)
theorem dX0_draft_48 : decode cX0_draft 48 = .ok (.aload_n 3, 1) := dk_45 (dk_at dksX0_draft_2 3 rfl rfl)
theorem dX0_draft_49 : decode cX0_draft 49 = .ok (.iload 4, 2) := dk_21 4 (dk_at dksX0_draft_2 4 rfl rfl)
theorem dX0_draft_51 : decode cX0_draft 51 = .ok (.invokeinterface 97 2, 5) := by decide +kernel
theorem dX0_draft_56 : decode cX0_draft 56 = .ok (.checkcast 16, 3) := dk_192 0 16 (dk_at dksX0_draft_2 11 rfl rfl)
theorem dX0_draft_59 : decode cX0_draft 59 = .ok (.aload_n 0, 1) := dk_42 (dk_at dksX0_draft_2 14 rfl rfl)
theorem dX0_draft_60 : decode cX0_draft 60 = .ok (.getfield 217, 3) := dk_180 0 217 (dk_at dksX0_draft_2 15 rfl rfl)
theorem dX0_draft_63 : decode cX0_draft 63 = .ok (.iload_n 2, 1) := dk_28 (dk_at dksX0_draft_2 18 rfl rfl)
theorem dX0_draft_64 : decode cX0_draft 64 = .ok (.aaload, 1) := dk_50 (dk_at dksX0_draft_2 19 rfl rfl)
theorem dX0_draft_65 : decode cX0_draft 65 = .ok (.invokevirtual 294, 3) := dk_182 1 38 (dk_at dksX0_draft_2 20 rfl rfl)
theorem dX0_draft_68 : decode cX0_draft 68 = .ok (.ifCond .eq 10, 3) := dk_153 0 10 (dk_at dksX0_draft_3 0 rfl rfl)
theorem dX0_draft_71 : decode cX0_draft 71 = .ok (.aload_n 3, 1) := dk_45 (dk_at dksX0_draft_3 3 rfl rfl)
theorem dX0_draft_72 : decode cX0_draft 72 = .ok (.invokeinterface 91 1, 5) := by decide +kernel
theorem dX0_draft_77 : decode cX0_draft 77 = .ok (.ireturn, 1) := dk_172 (dk_at dksX0_draft_3 9 rfl rfl)
theorem dX0_draft_78 : decode cX0_draft 78 = .ok (.iinc 4 1, 3) := dk_132 4 1 (dk_at dksX0_draft_3 10 rfl rfl)
theorem dX0_draft_81 : decode cX0_draft 81 = .ok (.goto (-44), 3) := dk_167 255 212 (dk_at dksX0_draft_3 13 rfl rfl)
theorem dX0_draft_84 : decode cX0_draft 84 = .ok (.aload_n 3, 1) := dk_45 (dk_at dksX0_draft_3 16 rfl rfl)
theorem dX0_draft_85 : decode cX0_draft 85 = .ok (.invokeinterface 91 1, 5) := by decide +kernel
theorem dX0_draft_90 : decode cX0_draft 90 = .ok (.bipush 6, 2) := dk_16 6 (dk_at dksX0_draft_3 22 rfl rfl)
theorem dX0_draft_92 : decode cX0_draft 92 = .ok (.if_icmp .ne 7, 3) := dk_160 0 7 (dk_at dksX0_draft_4 0 rfl rfl)
theorem dX0_draft_95 : decode cX0_draft 95 = .ok (.ldc_w 298, 3) := dk_19 1 42 (dk_at dksX0_draft_4 3 rfl rfl)
theorem dX0_draft_98 : decode cX0_draft 98 = .ok (.ireturn, 1) := dk_172 (dk_at dksX0_draft_4 6 rfl rfl)
theorem dX0_draft_99 : decode cX0_draft 99 = .ok (.aload_n 3, 1) := dk_45 (dk_at dksX0_draft_4 7 rfl rfl)
theorem dX0_draft_100 : decode cX0_draft 100 = .ok (.aload_n 0, 1) := dk_42 (dk_at dksX0_draft_4 8 rfl rfl)
theorem dX0_draft_101 : decode cX0_draft 101 = .ok (.getfield 217, 3) := dk_180 0 217 (dk_at dksX0_draft_4 9 rfl rfl)
theorem dX0_draft_104 : decode cX0_draft 104 = .ok (.iload_n 2, 1) := dk_28 (dk_at dksX0_draft_4 12 rfl rfl)
theorem dX0_draft_105 : decode cX0_draft 105 = .ok (.aaload, 1) := dk_50 (dk_at dksX0_draft_4 13 rfl rfl)
theorem dX0_draft_106 : decode cX0_draft 106 = .ok (.invokeinterface 112 2, 5) := by decide +kernel
theorem dX0_draft_111 : decode cX0_draft 111 = .ok (.pop, 1) := dk_87 (dk_at dksX0_draft_4 19 rfl rfl)
theorem dX0_draft_112 : decode cX0_draft 112 = .ok (.aload_n 3, 1) := dk_45 (dk_at dksX0_draft_4 20 rfl rfl)
theorem dX0_draft_113 : decode cX0_draft 113 = .ok (.invokeinterface 91 1, 5) := by decide +kernel
theorem dX0_draft_118 : decode cX0_draft 118 = .ok (.ireturn, 1) := dk_172 (dk_at dksX0_draft_5 5 rfl rfl)
abbrev cX0_isSide : ByteArray := prog_1_method_24_code
def yX0_isSide : MethodName := ⟨RX0, "isSide", "(I)Z"⟩
def dkwX0_isSide_0 : List UInt8 := [26, 3, 4, 184, 0, 250, 172]
abbrev dktX0_isSide_0 : List UInt8 := dkwX0_isSide_0 ++ []
theorem dksX0_isSide_0 : cX0_isSide.data.toList.drop 0 = dktX0_isSide_0 := by decide +kernel
theorem dX0_isSide_0 : decode cX0_isSide 0 = .ok (.iload_n 0, 1) := dk_26 (dk_at dksX0_isSide_0 0 rfl rfl)
theorem dX0_isSide_1 : decode cX0_isSide 1 = .ok (.iconst 0, 1) := dk_3 (dk_at dksX0_isSide_0 1 rfl rfl)
theorem dX0_isSide_2 : decode cX0_isSide 2 = .ok (.iconst 1, 1) := dk_4 (dk_at dksX0_isSide_0 2 rfl rfl)
theorem dX0_isSide_3 : decode cX0_isSide 3 = .ok (.invokestatic 250, 3) := dk_184 0 250 (dk_at dksX0_isSide_0 3 rfl rfl)
theorem dX0_isSide_6 : decode cX0_isSide 6 = .ok (.ireturn, 1) := dk_172 (dk_at dksX0_isSide_0 6 rfl rfl)
abbrev cX0_clearDraft : ByteArray := prog_1_method_32_code
def yX0_clearDraft : MethodName := ⟨RX0, "clearDraft", "()I"⟩
def dkwX0_clearDraft_0 : List UInt8 := [42, 180, 0, 230, 184, 1, 59, 42, 180, 0, 233, 184, 1, 59, 96, 172]
abbrev dktX0_clearDraft_0 : List UInt8 := dkwX0_clearDraft_0 ++ []
theorem dksX0_clearDraft_0 : cX0_clearDraft.data.toList.drop 0 = dktX0_clearDraft_0 := by decide +kernel
theorem dX0_clearDraft_0 : decode cX0_clearDraft 0 = .ok (.aload_n 0, 1) := dk_42 (dk_at dksX0_clearDraft_0 0 rfl rfl)
theorem dX0_clearDraft_1 : decode cX0_clearDraft 1 = .ok (.getfield 230, 3) := dk_180 0 230 (dk_at dksX0_clearDraft_0 1 rfl rfl)
theorem dX0_clearDraft_4 : decode cX0_clearDraft 4 = .ok (.invokestatic 315, 3) := dk_184 1 59 (dk_at dksX0_clearDraft_0 4 rfl rfl)
theorem dX0_clearDraft_7 : decode cX0_clearDraft 7 = .ok (.aload_n 0, 1) := dk_42 (dk_at dksX0_clearDraft_0 7 rfl rfl)
theorem dX0_clearDraft_8 : decode cX0_clearDraft 8 = .ok (.getfield 233, 3) := dk_180 0 233 (dk_at dksX0_clearDraft_0 8 rfl rfl)
theorem dX0_clearDraft_11 : decode cX0_clearDraft 11 = .ok (.invokestatic 315, 3) := dk_184 1 59 (dk_at dksX0_clearDraft_0 11 rfl rfl)
theorem dX0_clearDraft_14 : decode cX0_clearDraft 14 = .ok (.iadd, 1) := dk_96 (dk_at dksX0_clearDraft_0 14 rfl rfl)
theorem dX0_clearDraft_15 : decode cX0_clearDraft 15 = .ok (.ireturn, 1) := dk_172 (dk_at dksX0_clearDraft_0 15 rfl rfl)
abbrev cX0_emptied : ByteArray := prog_1_method_31_code
def yX0_emptied : MethodName := ⟨RX0, "emptied", "(Ljava/util/List;)I"⟩
def dkwX0_emptied_1 : List UInt8 := [87, 44, 185, 1, 56, 1, 0, 132, 1, 1, 167, 255, 231, 27, 172]
abbrev dktX0_emptied_1 : List UInt8 := dkwX0_emptied_1 ++ []
def dkwX0_emptied_0 : List UInt8 := [3, 60, 42, 185, 1, 43, 1, 0, 77, 44, 185, 1, 47, 1, 0, 153, 0, 22, 44, 185, 1, 53, 1, 0]
abbrev dktX0_emptied_0 : List UInt8 := dkwX0_emptied_0 ++ dktX0_emptied_1
theorem dksX0_emptied_0 : cX0_emptied.data.toList.drop 0 = dktX0_emptied_0 := by decide +kernel
theorem dksX0_emptied_1 : cX0_emptied.data.toList.drop 24 = dktX0_emptied_1 := dk_seg dksX0_emptied_0 24 rfl rfl
theorem dX0_emptied_0 : decode cX0_emptied 0 = .ok (.iconst 0, 1) := dk_3 (dk_at dksX0_emptied_0 0 rfl rfl)
theorem dX0_emptied_1 : decode cX0_emptied 1 = .ok (.istore_n 1, 1) := dk_60 (dk_at dksX0_emptied_0 1 rfl rfl)
theorem dX0_emptied_2 : decode cX0_emptied 2 = .ok (.aload_n 0, 1) := dk_42 (dk_at dksX0_emptied_0 2 rfl rfl)
theorem dX0_emptied_3 : decode cX0_emptied 3 = .ok (.invokeinterface 299 1, 5) := by decide +kernel
theorem dX0_emptied_8 : decode cX0_emptied 8 = .ok (.astore_n 2, 1) := dk_77 (dk_at dksX0_emptied_0 8 rfl rfl)
theorem dX0_emptied_9 : decode cX0_emptied 9 = .ok (.aload_n 2, 1) := dk_44 (dk_at dksX0_emptied_0 9 rfl rfl)
theorem dX0_emptied_10 : decode cX0_emptied 10 = .ok (.invokeinterface 303 1, 5) := by decide +kernel
theorem dX0_emptied_15 : decode cX0_emptied 15 = .ok (.ifCond .eq 22, 3) := dk_153 0 22 (dk_at dksX0_emptied_0 15 rfl rfl)
theorem dX0_emptied_18 : decode cX0_emptied 18 = .ok (.aload_n 2, 1) := dk_44 (dk_at dksX0_emptied_0 18 rfl rfl)
theorem dX0_emptied_19 : decode cX0_emptied 19 = .ok (.invokeinterface 309 1, 5) := by decide +kernel
theorem dX0_emptied_24 : decode cX0_emptied 24 = .ok (.pop, 1) := dk_87 (dk_at dksX0_emptied_1 0 rfl rfl)
theorem dX0_emptied_25 : decode cX0_emptied 25 = .ok (.aload_n 2, 1) := dk_44 (dk_at dksX0_emptied_1 1 rfl rfl)
theorem dX0_emptied_26 : decode cX0_emptied 26 = .ok (.invokeinterface 312 1, 5) := by decide +kernel
theorem dX0_emptied_31 : decode cX0_emptied 31 = .ok (.iinc 1 1, 3) := dk_132 1 1 (dk_at dksX0_emptied_1 7 rfl rfl)
theorem dX0_emptied_34 : decode cX0_emptied 34 = .ok (.goto (-25), 3) := dk_167 255 231 (dk_at dksX0_emptied_1 10 rfl rfl)
theorem dX0_emptied_37 : decode cX0_emptied 37 = .ok (.iload_n 1, 1) := dk_27 (dk_at dksX0_emptied_1 13 rfl rfl)
theorem dX0_emptied_38 : decode cX0_emptied 38 = .ok (.ireturn, 1) := dk_172 (dk_at dksX0_emptied_1 14 rfl rfl)
abbrev cX0_examineDraft : ByteArray := prog_1_method_33_code
def yX0_examineDraft : MethodName := ⟨RX0, "examineDraft", "(I)I"⟩
def dkwX0_examineDraft_7 : List UInt8 := [182, 0, 115, 44, 25, 4, 182, 0, 115, 21, 8, 172]
abbrev dktX0_examineDraft_7 : List UInt8 := dkwX0_examineDraft_7 ++ []
def dkwX0_examineDraft_6 : List UInt8 := [21, 8, 21, 10, 153, 0, 7, 4, 167, 0, 4, 3, 96, 54, 8, 132, 9, 1, 167, 255, 168, 44, 45]
abbrev dktX0_examineDraft_6 : List UInt8 := dkwX0_examineDraft_6 ++ dktX0_examineDraft_7
def dkwX0_examineDraft_5 : List UInt8 := [185, 0, 97, 2, 0, 192, 0, 68, 25, 5, 182, 1, 74, 198, 0, 7, 4, 167, 0, 4, 3, 54, 10]
abbrev dktX0_examineDraft_5 : List UInt8 := dkwX0_examineDraft_5 ++ dktX0_examineDraft_6
def dkwX0_examineDraft_4 : List UInt8 := [185, 0, 97, 2, 0, 192, 0, 68, 25, 7, 182, 1, 70, 167, 0, 31, 44, 21, 6, 25, 7, 21, 9]
abbrev dktX0_examineDraft_4 : List UInt8 := dkwX0_examineDraft_4 ++ dktX0_examineDraft_5
def dkwX0_examineDraft_3 : List UInt8 := [185, 0, 91, 1, 0, 162, 0, 82, 27, 5, 162, 0, 26, 44, 21, 6, 25, 7, 21, 9]
abbrev dktX0_examineDraft_3 : List UInt8 := dkwX0_examineDraft_3 ++ dktX0_examineDraft_4
def dkwX0_examineDraft_2 : List UInt8 := [5, 112, 54, 6, 25, 5, 21, 6, 182, 1, 66, 58, 7, 3, 54, 8, 3, 54, 9, 21, 9, 25, 7]
abbrev dktX0_examineDraft_2 : List UInt8 := dkwX0_examineDraft_2 ++ dktX0_examineDraft_3
def dkwX0_examineDraft_1 : List UInt8 := [184, 0, 105, 78, 44, 42, 180, 0, 233, 184, 0, 105, 58, 4, 44, 45, 25, 4, 182, 1, 63, 58, 5, 27]
abbrev dktX0_examineDraft_1 : List UInt8 := dkwX0_examineDraft_1 ++ dktX0_examineDraft_2
def dkwX0_examineDraft_0 : List UInt8 := [27, 3, 6, 184, 0, 250, 154, 0, 7, 19, 1, 1, 172, 42, 182, 0, 26, 77, 44, 42, 180, 0, 230]
abbrev dktX0_examineDraft_0 : List UInt8 := dkwX0_examineDraft_0 ++ dktX0_examineDraft_1
theorem dksX0_examineDraft_0 : cX0_examineDraft.data.toList.drop 0 = dktX0_examineDraft_0 := by decide +kernel
theorem dksX0_examineDraft_1 : cX0_examineDraft.data.toList.drop 23 = dktX0_examineDraft_1 := dk_seg dksX0_examineDraft_0 23 rfl rfl
theorem dksX0_examineDraft_2 : cX0_examineDraft.data.toList.drop 47 = dktX0_examineDraft_2 := dk_seg dksX0_examineDraft_1 24 rfl rfl
theorem dksX0_examineDraft_3 : cX0_examineDraft.data.toList.drop 70 = dktX0_examineDraft_3 := dk_seg dksX0_examineDraft_2 23 rfl rfl
theorem dksX0_examineDraft_4 : cX0_examineDraft.data.toList.drop 90 = dktX0_examineDraft_4 := dk_seg dksX0_examineDraft_3 20 rfl rfl
theorem dksX0_examineDraft_5 : cX0_examineDraft.data.toList.drop 113 = dktX0_examineDraft_5 := dk_seg dksX0_examineDraft_4 23 rfl rfl
theorem dksX0_examineDraft_6 : cX0_examineDraft.data.toList.drop 136 = dktX0_examineDraft_6 := dk_seg dksX0_examineDraft_5 23 rfl rfl
theorem dksX0_examineDraft_7 : cX0_examineDraft.data.toList.drop 159 = dktX0_examineDraft_7 := dk_seg dksX0_examineDraft_6 23 rfl rfl
theorem dX0_examineDraft_0 : decode cX0_examineDraft 0 = .ok (.iload_n 1, 1) := dk_27 (dk_at dksX0_examineDraft_0 0 rfl rfl)
theorem dX0_examineDraft_1 : decode cX0_examineDraft 1 = .ok (.iconst 0, 1) := dk_3 (dk_at dksX0_examineDraft_0 1 rfl rfl)
theorem dX0_examineDraft_2 : decode cX0_examineDraft 2 = .ok (.iconst 3, 1) := dk_6 (dk_at dksX0_examineDraft_0 2 rfl rfl)
theorem dX0_examineDraft_3 : decode cX0_examineDraft 3 = .ok (.invokestatic 250, 3) := dk_184 0 250 (dk_at dksX0_examineDraft_0 3 rfl rfl)
theorem dX0_examineDraft_6 : decode cX0_examineDraft 6 = .ok (.ifCond .ne 7, 3) := dk_154 0 7 (dk_at dksX0_examineDraft_0 6 rfl rfl)
theorem dX0_examineDraft_9 : decode cX0_examineDraft 9 = .ok (.ldc_w 257, 3) := dk_19 1 1 (dk_at dksX0_examineDraft_0 9 rfl rfl)
theorem dX0_examineDraft_12 : decode cX0_examineDraft 12 = .ok (.ireturn, 1) := dk_172 (dk_at dksX0_examineDraft_0 12 rfl rfl)
theorem dX0_examineDraft_13 : decode cX0_examineDraft 13 = .ok (.aload_n 0, 1) := dk_42 (dk_at dksX0_examineDraft_0 13 rfl rfl)
theorem dX0_examineDraft_14 : decode cX0_examineDraft 14 = .ok (.invokevirtual 26, 3) := dk_182 0 26 (dk_at dksX0_examineDraft_0 14 rfl rfl)
theorem dX0_examineDraft_17 : decode cX0_examineDraft 17 = .ok (.astore_n 2, 1) := dk_77 (dk_at dksX0_examineDraft_0 17 rfl rfl)
theorem dX0_examineDraft_18 : decode cX0_examineDraft 18 = .ok (.aload_n 2, 1) := dk_44 (dk_at dksX0_examineDraft_0 18 rfl rfl)
theorem dX0_examineDraft_19 : decode cX0_examineDraft 19 = .ok (.aload_n 0, 1) := dk_42 (dk_at dksX0_examineDraft_0 19 rfl rfl)
theorem dX0_examineDraft_20 : decode cX0_examineDraft 20 = .ok (.getfield 230, 3) := dk_180 0 230 (dk_at dksX0_examineDraft_0 20 rfl rfl)
theorem dX0_examineDraft_23 : decode cX0_examineDraft 23 = .ok (.invokestatic 105, 3) := dk_184 0 105 (dk_at dksX0_examineDraft_1 0 rfl rfl)
theorem dX0_examineDraft_26 : decode cX0_examineDraft 26 = .ok (.astore_n 3, 1) := dk_78 (dk_at dksX0_examineDraft_1 3 rfl rfl)
theorem dX0_examineDraft_27 : decode cX0_examineDraft 27 = .ok (.aload_n 2, 1) := dk_44 (dk_at dksX0_examineDraft_1 4 rfl rfl)
theorem dX0_examineDraft_28 : decode cX0_examineDraft 28 = .ok (.aload_n 0, 1) := dk_42 (dk_at dksX0_examineDraft_1 5 rfl rfl)
theorem dX0_examineDraft_29 : decode cX0_examineDraft 29 = .ok (.getfield 233, 3) := dk_180 0 233 (dk_at dksX0_examineDraft_1 6 rfl rfl)
theorem dX0_examineDraft_32 : decode cX0_examineDraft 32 = .ok (.invokestatic 105, 3) := dk_184 0 105 (dk_at dksX0_examineDraft_1 9 rfl rfl)
theorem dX0_examineDraft_35 : decode cX0_examineDraft 35 = .ok (.astore 4, 2) := dk_58 4 (dk_at dksX0_examineDraft_1 12 rfl rfl)
theorem dX0_examineDraft_37 : decode cX0_examineDraft 37 = .ok (.aload_n 2, 1) := dk_44 (dk_at dksX0_examineDraft_1 14 rfl rfl)
theorem dX0_examineDraft_38 : decode cX0_examineDraft 38 = .ok (.aload_n 3, 1) := dk_45 (dk_at dksX0_examineDraft_1 15 rfl rfl)
theorem dX0_examineDraft_39 : decode cX0_examineDraft 39 = .ok (.aload 4, 2) := dk_25 4 (dk_at dksX0_examineDraft_1 16 rfl rfl)
theorem dX0_examineDraft_41 : decode cX0_examineDraft 41 = .ok (.invokevirtual 319, 3) := dk_182 1 63 (dk_at dksX0_examineDraft_1 18 rfl rfl)
theorem dX0_examineDraft_44 : decode cX0_examineDraft 44 = .ok (.astore 5, 2) := dk_58 5 (dk_at dksX0_examineDraft_1 21 rfl rfl)
theorem dX0_examineDraft_46 : decode cX0_examineDraft 46 = .ok (.iload_n 1, 1) := dk_27 (dk_at dksX0_examineDraft_1 23 rfl rfl)
theorem dX0_examineDraft_47 : decode cX0_examineDraft 47 = .ok (.iconst 2, 1) := dk_5 (dk_at dksX0_examineDraft_2 0 rfl rfl)
theorem dX0_examineDraft_48 : decode cX0_examineDraft 48 = .ok (.irem, 1) := dk_112 (dk_at dksX0_examineDraft_2 1 rfl rfl)
theorem dX0_examineDraft_49 : decode cX0_examineDraft 49 = .ok (.istore 6, 2) := dk_54 6 (dk_at dksX0_examineDraft_2 2 rfl rfl)
theorem dX0_examineDraft_51 : decode cX0_examineDraft 51 = .ok (.aload 5, 2) := dk_25 5 (dk_at dksX0_examineDraft_2 4 rfl rfl)
theorem dX0_examineDraft_53 : decode cX0_examineDraft 53 = .ok (.iload 6, 2) := dk_21 6 (dk_at dksX0_examineDraft_2 6 rfl rfl)
theorem dX0_examineDraft_55 : decode cX0_examineDraft 55 = .ok (.invokevirtual 322, 3) := dk_182 1 66 (dk_at dksX0_examineDraft_2 8 rfl rfl)
theorem dX0_examineDraft_58 : decode cX0_examineDraft 58 = .ok (.astore 7, 2) := dk_58 7 (dk_at dksX0_examineDraft_2 11 rfl rfl)
theorem dX0_examineDraft_60 : decode cX0_examineDraft 60 = .ok (.iconst 0, 1) := dk_3 (dk_at dksX0_examineDraft_2 13 rfl rfl)
theorem dX0_examineDraft_61 : decode cX0_examineDraft 61 = .ok (.istore 8, 2) := dk_54 8 (dk_at dksX0_examineDraft_2 14 rfl rfl)
theorem dX0_examineDraft_63 : decode cX0_examineDraft 63 = .ok (.iconst 0, 1) := dk_3 (dk_at dksX0_examineDraft_2 16 rfl rfl)
theorem dX0_examineDraft_64 : decode cX0_examineDraft 64 = .ok (.istore 9, 2) := dk_54 9 (dk_at dksX0_examineDraft_2 17 rfl rfl)
theorem dX0_examineDraft_66 : decode cX0_examineDraft 66 = .ok (.iload 9, 2) := dk_21 9 (dk_at dksX0_examineDraft_2 19 rfl rfl)
theorem dX0_examineDraft_68 : decode cX0_examineDraft 68 = .ok (.aload 7, 2) := dk_25 7 (dk_at dksX0_examineDraft_2 21 rfl rfl)
theorem dX0_examineDraft_70 : decode cX0_examineDraft 70 = .ok (.invokeinterface 91 1, 5) := by decide +kernel
theorem dX0_examineDraft_75 : decode cX0_examineDraft 75 = .ok (.if_icmp .ge 82, 3) := dk_162 0 82 (dk_at dksX0_examineDraft_3 5 rfl rfl)
theorem dX0_examineDraft_78 : decode cX0_examineDraft 78 = .ok (.iload_n 1, 1) := dk_27 (dk_at dksX0_examineDraft_3 8 rfl rfl)
theorem dX0_examineDraft_79 : decode cX0_examineDraft 79 = .ok (.iconst 2, 1) := dk_5 (dk_at dksX0_examineDraft_3 9 rfl rfl)
theorem dX0_examineDraft_80 : decode cX0_examineDraft 80 = .ok (.if_icmp .ge 26, 3) := dk_162 0 26 (dk_at dksX0_examineDraft_3 10 rfl rfl)
theorem dX0_examineDraft_83 : decode cX0_examineDraft 83 = .ok (.aload_n 2, 1) := dk_44 (dk_at dksX0_examineDraft_3 13 rfl rfl)
theorem dX0_examineDraft_84 : decode cX0_examineDraft 84 = .ok (.iload 6, 2) := dk_21 6 (dk_at dksX0_examineDraft_3 14 rfl rfl)
theorem dX0_examineDraft_86 : decode cX0_examineDraft 86 = .ok (.aload 7, 2) := dk_25 7 (dk_at dksX0_examineDraft_3 16 rfl rfl)
theorem dX0_examineDraft_88 : decode cX0_examineDraft 88 = .ok (.iload 9, 2) := dk_21 9 (dk_at dksX0_examineDraft_3 18 rfl rfl)
theorem dX0_examineDraft_90 : decode cX0_examineDraft 90 = .ok (.invokeinterface 97 2, 5) := by decide +kernel
theorem dX0_examineDraft_95 : decode cX0_examineDraft 95 = .ok (.checkcast 68, 3) := dk_192 0 68 (dk_at dksX0_examineDraft_4 5 rfl rfl)
theorem dX0_examineDraft_98 : decode cX0_examineDraft 98 = .ok (.aload 7, 2) := dk_25 7 (dk_at dksX0_examineDraft_4 8 rfl rfl)
theorem dX0_examineDraft_100 : decode cX0_examineDraft 100 = .ok (.invokevirtual 326, 3) := dk_182 1 70 (dk_at dksX0_examineDraft_4 10 rfl rfl)
theorem dX0_examineDraft_103 : decode cX0_examineDraft 103 = .ok (.goto 31, 3) := dk_167 0 31 (dk_at dksX0_examineDraft_4 13 rfl rfl)
theorem dX0_examineDraft_106 : decode cX0_examineDraft 106 = .ok (.aload_n 2, 1) := dk_44 (dk_at dksX0_examineDraft_4 16 rfl rfl)
theorem dX0_examineDraft_107 : decode cX0_examineDraft 107 = .ok (.iload 6, 2) := dk_21 6 (dk_at dksX0_examineDraft_4 17 rfl rfl)
theorem dX0_examineDraft_109 : decode cX0_examineDraft 109 = .ok (.aload 7, 2) := dk_25 7 (dk_at dksX0_examineDraft_4 19 rfl rfl)
theorem dX0_examineDraft_111 : decode cX0_examineDraft 111 = .ok (.iload 9, 2) := dk_21 9 (dk_at dksX0_examineDraft_4 21 rfl rfl)
theorem dX0_examineDraft_113 : decode cX0_examineDraft 113 = .ok (.invokeinterface 97 2, 5) := by decide +kernel
theorem dX0_examineDraft_118 : decode cX0_examineDraft 118 = .ok (.checkcast 68, 3) := dk_192 0 68 (dk_at dksX0_examineDraft_5 5 rfl rfl)
theorem dX0_examineDraft_121 : decode cX0_examineDraft 121 = .ok (.aload 5, 2) := dk_25 5 (dk_at dksX0_examineDraft_5 8 rfl rfl)
theorem dX0_examineDraft_123 : decode cX0_examineDraft 123 = .ok (.invokevirtual 330, 3) := dk_182 1 74 (dk_at dksX0_examineDraft_5 10 rfl rfl)
theorem dX0_examineDraft_126 : decode cX0_examineDraft 126 = .ok (.ifnull 7, 3) := dk_198 0 7 (dk_at dksX0_examineDraft_5 13 rfl rfl)
theorem dX0_examineDraft_129 : decode cX0_examineDraft 129 = .ok (.iconst 1, 1) := dk_4 (dk_at dksX0_examineDraft_5 16 rfl rfl)
theorem dX0_examineDraft_130 : decode cX0_examineDraft 130 = .ok (.goto 4, 3) := dk_167 0 4 (dk_at dksX0_examineDraft_5 17 rfl rfl)
theorem dX0_examineDraft_133 : decode cX0_examineDraft 133 = .ok (.iconst 0, 1) := dk_3 (dk_at dksX0_examineDraft_5 20 rfl rfl)
theorem dX0_examineDraft_134 : decode cX0_examineDraft 134 = .ok (.istore 10, 2) := dk_54 10 (dk_at dksX0_examineDraft_5 21 rfl rfl)
theorem dX0_examineDraft_136 : decode cX0_examineDraft 136 = .ok (.iload 8, 2) := dk_21 8 (dk_at dksX0_examineDraft_6 0 rfl rfl)
theorem dX0_examineDraft_138 : decode cX0_examineDraft 138 = .ok (.iload 10, 2) := dk_21 10 (dk_at dksX0_examineDraft_6 2 rfl rfl)
theorem dX0_examineDraft_140 : decode cX0_examineDraft 140 = .ok (.ifCond .eq 7, 3) := dk_153 0 7 (dk_at dksX0_examineDraft_6 4 rfl rfl)
theorem dX0_examineDraft_143 : decode cX0_examineDraft 143 = .ok (.iconst 1, 1) := dk_4 (dk_at dksX0_examineDraft_6 7 rfl rfl)
theorem dX0_examineDraft_144 : decode cX0_examineDraft 144 = .ok (.goto 4, 3) := dk_167 0 4 (dk_at dksX0_examineDraft_6 8 rfl rfl)
theorem dX0_examineDraft_147 : decode cX0_examineDraft 147 = .ok (.iconst 0, 1) := dk_3 (dk_at dksX0_examineDraft_6 11 rfl rfl)
theorem dX0_examineDraft_148 : decode cX0_examineDraft 148 = .ok (.iadd, 1) := dk_96 (dk_at dksX0_examineDraft_6 12 rfl rfl)
theorem dX0_examineDraft_149 : decode cX0_examineDraft 149 = .ok (.istore 8, 2) := dk_54 8 (dk_at dksX0_examineDraft_6 13 rfl rfl)
theorem dX0_examineDraft_151 : decode cX0_examineDraft 151 = .ok (.iinc 9 1, 3) := dk_132 9 1 (dk_at dksX0_examineDraft_6 15 rfl rfl)
theorem dX0_examineDraft_154 : decode cX0_examineDraft 154 = .ok (.goto (-88), 3) := dk_167 255 168 (dk_at dksX0_examineDraft_6 18 rfl rfl)
theorem dX0_examineDraft_157 : decode cX0_examineDraft 157 = .ok (.aload_n 2, 1) := dk_44 (dk_at dksX0_examineDraft_6 21 rfl rfl)
theorem dX0_examineDraft_158 : decode cX0_examineDraft 158 = .ok (.aload_n 3, 1) := dk_45 (dk_at dksX0_examineDraft_6 22 rfl rfl)
theorem dX0_examineDraft_159 : decode cX0_examineDraft 159 = .ok (.invokevirtual 115, 3) := dk_182 0 115 (dk_at dksX0_examineDraft_7 0 rfl rfl)
theorem dX0_examineDraft_162 : decode cX0_examineDraft 162 = .ok (.aload_n 2, 1) := dk_44 (dk_at dksX0_examineDraft_7 3 rfl rfl)
theorem dX0_examineDraft_163 : decode cX0_examineDraft 163 = .ok (.aload 4, 2) := dk_25 4 (dk_at dksX0_examineDraft_7 4 rfl rfl)
theorem dX0_examineDraft_165 : decode cX0_examineDraft 165 = .ok (.invokevirtual 115, 3) := dk_182 0 115 (dk_at dksX0_examineDraft_7 6 rfl rfl)
theorem dX0_examineDraft_168 : decode cX0_examineDraft 168 = .ok (.iload 8, 2) := dk_21 8 (dk_at dksX0_examineDraft_7 9 rfl rfl)
theorem dX0_examineDraft_170 : decode cX0_examineDraft 170 = .ok (.ireturn, 1) := dk_172 (dk_at dksX0_examineDraft_7 11 rfl rfl)
abbrev cX0_makeGame : ByteArray := prog_1_method_34_code
def yX0_makeGame : MethodName := ⟨RX0, "makeGame", "(I)I"⟩
def dkwX0_makeGame_1 : List UInt8 := [185, 0, 158, 1, 0, 42, 180, 0, 233, 185, 0, 158, 1, 0, 28, 172]
abbrev dktX0_makeGame_1 : List UInt8 := dkwX0_makeGame_1 ++ []
def dkwX0_makeGame_0 : List UInt8 := [42, 4, 27, 42, 186, 1, 78, 0, 0, 182, 1, 24, 61, 28, 158, 0, 21, 42, 180, 0, 230]
abbrev dktX0_makeGame_0 : List UInt8 := dkwX0_makeGame_0 ++ dktX0_makeGame_1
theorem dksX0_makeGame_0 : cX0_makeGame.data.toList.drop 0 = dktX0_makeGame_0 := by decide +kernel
theorem dksX0_makeGame_1 : cX0_makeGame.data.toList.drop 21 = dktX0_makeGame_1 := dk_seg dksX0_makeGame_0 21 rfl rfl
theorem dX0_makeGame_0 : decode cX0_makeGame 0 = .ok (.aload_n 0, 1) := dk_42 (dk_at dksX0_makeGame_0 0 rfl rfl)
theorem dX0_makeGame_1 : decode cX0_makeGame 1 = .ok (.iconst 1, 1) := dk_4 (dk_at dksX0_makeGame_0 1 rfl rfl)
theorem dX0_makeGame_2 : decode cX0_makeGame 2 = .ok (.iload_n 1, 1) := dk_27 (dk_at dksX0_makeGame_0 2 rfl rfl)
theorem dX0_makeGame_3 : decode cX0_makeGame 3 = .ok (.aload_n 0, 1) := dk_42 (dk_at dksX0_makeGame_0 3 rfl rfl)
theorem dX0_makeGame_4 : decode cX0_makeGame 4 = .ok (.invokedynamic 334, 5) := by decide +kernel
theorem dX0_makeGame_9 : decode cX0_makeGame 9 = .ok (.invokevirtual 280, 3) := dk_182 1 24 (dk_at dksX0_makeGame_0 9 rfl rfl)
theorem dX0_makeGame_12 : decode cX0_makeGame 12 = .ok (.istore_n 2, 1) := dk_61 (dk_at dksX0_makeGame_0 12 rfl rfl)
theorem dX0_makeGame_13 : decode cX0_makeGame 13 = .ok (.iload_n 2, 1) := dk_28 (dk_at dksX0_makeGame_0 13 rfl rfl)
theorem dX0_makeGame_14 : decode cX0_makeGame 14 = .ok (.ifCond .le 21, 3) := dk_158 0 21 (dk_at dksX0_makeGame_0 14 rfl rfl)
theorem dX0_makeGame_17 : decode cX0_makeGame 17 = .ok (.aload_n 0, 1) := dk_42 (dk_at dksX0_makeGame_0 17 rfl rfl)
theorem dX0_makeGame_18 : decode cX0_makeGame 18 = .ok (.getfield 230, 3) := dk_180 0 230 (dk_at dksX0_makeGame_0 18 rfl rfl)
theorem dX0_makeGame_21 : decode cX0_makeGame 21 = .ok (.invokeinterface 158 1, 5) := by decide +kernel
theorem dX0_makeGame_26 : decode cX0_makeGame 26 = .ok (.aload_n 0, 1) := dk_42 (dk_at dksX0_makeGame_1 5 rfl rfl)
theorem dX0_makeGame_27 : decode cX0_makeGame 27 = .ok (.getfield 233, 3) := dk_180 0 233 (dk_at dksX0_makeGame_1 6 rfl rfl)
theorem dX0_makeGame_30 : decode cX0_makeGame 30 = .ok (.invokeinterface 158 1, 5) := by decide +kernel
theorem dX0_makeGame_35 : decode cX0_makeGame 35 = .ok (.iload_n 2, 1) := dk_28 (dk_at dksX0_makeGame_1 14 rfl rfl)
theorem dX0_makeGame_36 : decode cX0_makeGame 36 = .ok (.ireturn, 1) := dk_172 (dk_at dksX0_makeGame_1 15 rfl rfl)
abbrev cX0_lambda_makeGame_3 : ByteArray := prog_1_method_82_code
def yX0_lambda_makeGame_3 : MethodName := ⟨RX0, "lambda$makeGame$3", "()LGameCalculator$Form;"⟩
def dkwX0_lambda_makeGame_3_0 : List UInt8 := [42, 42, 180, 0, 230, 42, 180, 0, 233, 182, 0, 130, 176]
abbrev dktX0_lambda_makeGame_3_0 : List UInt8 := dkwX0_lambda_makeGame_3_0 ++ []
theorem dksX0_lambda_makeGame_3_0 : cX0_lambda_makeGame_3.data.toList.drop 0 = dktX0_lambda_makeGame_3_0 := by decide +kernel
theorem dX0_lambda_makeGame_3_0 : decode cX0_lambda_makeGame_3 0 = .ok (.aload_n 0, 1) := dk_42 (dk_at dksX0_lambda_makeGame_3_0 0 rfl rfl)
theorem dX0_lambda_makeGame_3_1 : decode cX0_lambda_makeGame_3 1 = .ok (.aload_n 0, 1) := dk_42 (dk_at dksX0_lambda_makeGame_3_0 1 rfl rfl)
theorem dX0_lambda_makeGame_3_2 : decode cX0_lambda_makeGame_3 2 = .ok (.getfield 230, 3) := dk_180 0 230 (dk_at dksX0_lambda_makeGame_3_0 2 rfl rfl)
theorem dX0_lambda_makeGame_3_5 : decode cX0_lambda_makeGame_3 5 = .ok (.aload_n 0, 1) := dk_42 (dk_at dksX0_lambda_makeGame_3_0 5 rfl rfl)
theorem dX0_lambda_makeGame_3_6 : decode cX0_lambda_makeGame_3 6 = .ok (.getfield 233, 3) := dk_180 0 233 (dk_at dksX0_lambda_makeGame_3_0 6 rfl rfl)
theorem dX0_lambda_makeGame_3_9 : decode cX0_lambda_makeGame_3 9 = .ok (.invokevirtual 130, 3) := dk_182 0 130 (dk_at dksX0_lambda_makeGame_3_0 9 rfl rfl)
theorem dX0_lambda_makeGame_3_12 : decode cX0_lambda_makeGame_3 12 = .ok (.areturn, 1) := dk_176 (dk_at dksX0_lambda_makeGame_3_0 12 rfl rfl)
abbrev cX0_takeOption : ByteArray := prog_1_method_36_code
def yX0_takeOption : MethodName := ⟨RX0, "takeOption", "(IIII)I"⟩
def dkwX0_takeOption_3 : List UInt8 := [186, 1, 89, 0, 0, 182, 1, 24, 172]
abbrev dktX0_takeOption_3 : List UInt8 := dkwX0_takeOption_3 ++ []
def dkwX0_takeOption_2 : List UInt8 := [21, 6, 156, 0, 9, 19, 1, 88, 167, 0, 20, 42, 4, 21, 4, 42, 25, 5, 21, 6]
abbrev dktX0_takeOption_2 : List UInt8 := dkwX0_takeOption_2 ++ dktX0_takeOption_3
def dkwX0_takeOption_1 : List UInt8 := [154, 0, 7, 19, 1, 1, 172, 42, 180, 0, 217, 27, 50, 58, 5, 25, 5, 28, 29, 182, 1, 85, 54, 6]
abbrev dktX0_takeOption_1 : List UInt8 := dkwX0_takeOption_1 ++ dktX0_takeOption_2
def dkwX0_takeOption_0 : List UInt8 := [27, 184, 0, 254, 153, 0, 22, 28, 184, 1, 35, 153, 0, 15, 29, 155, 0, 11, 21, 4, 184, 0, 254]
abbrev dktX0_takeOption_0 : List UInt8 := dkwX0_takeOption_0 ++ dktX0_takeOption_1
theorem dksX0_takeOption_0 : cX0_takeOption.data.toList.drop 0 = dktX0_takeOption_0 := by decide +kernel
theorem dksX0_takeOption_1 : cX0_takeOption.data.toList.drop 23 = dktX0_takeOption_1 := dk_seg dksX0_takeOption_0 23 rfl rfl
theorem dksX0_takeOption_2 : cX0_takeOption.data.toList.drop 47 = dktX0_takeOption_2 := dk_seg dksX0_takeOption_1 24 rfl rfl
theorem dksX0_takeOption_3 : cX0_takeOption.data.toList.drop 67 = dktX0_takeOption_3 := dk_seg dksX0_takeOption_2 20 rfl rfl
theorem dX0_takeOption_0 : decode cX0_takeOption 0 = .ok (.iload_n 1, 1) := dk_27 (dk_at dksX0_takeOption_0 0 rfl rfl)
theorem dX0_takeOption_1 : decode cX0_takeOption 1 = .ok (.invokestatic 254, 3) := dk_184 0 254 (dk_at dksX0_takeOption_0 1 rfl rfl)
theorem dX0_takeOption_4 : decode cX0_takeOption 4 = .ok (.ifCond .eq 22, 3) := dk_153 0 22 (dk_at dksX0_takeOption_0 4 rfl rfl)
theorem dX0_takeOption_7 : decode cX0_takeOption 7 = .ok (.iload_n 2, 1) := dk_28 (dk_at dksX0_takeOption_0 7 rfl rfl)
theorem dX0_takeOption_8 : decode cX0_takeOption 8 = .ok (.invokestatic 291, 3) := dk_184 1 35 (dk_at dksX0_takeOption_0 8 rfl rfl)
theorem dX0_takeOption_11 : decode cX0_takeOption 11 = .ok (.ifCond .eq 15, 3) := dk_153 0 15 (dk_at dksX0_takeOption_0 11 rfl rfl)
theorem dX0_takeOption_14 : decode cX0_takeOption 14 = .ok (.iload_n 3, 1) := dk_29 (dk_at dksX0_takeOption_0 14 rfl rfl)
theorem dX0_takeOption_15 : decode cX0_takeOption 15 = .ok (.ifCond .lt 11, 3) := dk_155 0 11 (dk_at dksX0_takeOption_0 15 rfl rfl)
theorem dX0_takeOption_18 : decode cX0_takeOption 18 = .ok (.iload 4, 2) := dk_21 4 (dk_at dksX0_takeOption_0 18 rfl rfl)
theorem dX0_takeOption_20 : decode cX0_takeOption 20 = .ok (.invokestatic 254, 3) := dk_184 0 254 (dk_at dksX0_takeOption_0 20 rfl rfl)
theorem dX0_takeOption_23 : decode cX0_takeOption 23 = .ok (.ifCond .ne 7, 3) := dk_154 0 7 (dk_at dksX0_takeOption_1 0 rfl rfl)
theorem dX0_takeOption_26 : decode cX0_takeOption 26 = .ok (.ldc_w 257, 3) := dk_19 1 1 (dk_at dksX0_takeOption_1 3 rfl rfl)
theorem dX0_takeOption_29 : decode cX0_takeOption 29 = .ok (.ireturn, 1) := dk_172 (dk_at dksX0_takeOption_1 6 rfl rfl)
theorem dX0_takeOption_30 : decode cX0_takeOption 30 = .ok (.aload_n 0, 1) := dk_42 (dk_at dksX0_takeOption_1 7 rfl rfl)
theorem dX0_takeOption_31 : decode cX0_takeOption 31 = .ok (.getfield 217, 3) := dk_180 0 217 (dk_at dksX0_takeOption_1 8 rfl rfl)
theorem dX0_takeOption_34 : decode cX0_takeOption 34 = .ok (.iload_n 1, 1) := dk_27 (dk_at dksX0_takeOption_1 11 rfl rfl)
theorem dX0_takeOption_35 : decode cX0_takeOption 35 = .ok (.aaload, 1) := dk_50 (dk_at dksX0_takeOption_1 12 rfl rfl)
theorem dX0_takeOption_36 : decode cX0_takeOption 36 = .ok (.astore 5, 2) := dk_58 5 (dk_at dksX0_takeOption_1 13 rfl rfl)
theorem dX0_takeOption_38 : decode cX0_takeOption 38 = .ok (.aload 5, 2) := dk_25 5 (dk_at dksX0_takeOption_1 15 rfl rfl)
theorem dX0_takeOption_40 : decode cX0_takeOption 40 = .ok (.iload_n 2, 1) := dk_28 (dk_at dksX0_takeOption_1 17 rfl rfl)
theorem dX0_takeOption_41 : decode cX0_takeOption 41 = .ok (.iload_n 3, 1) := dk_29 (dk_at dksX0_takeOption_1 18 rfl rfl)
theorem dX0_takeOption_42 : decode cX0_takeOption 42 = .ok (.invokevirtual 341, 3) := dk_182 1 85 (dk_at dksX0_takeOption_1 19 rfl rfl)
theorem dX0_takeOption_45 : decode cX0_takeOption 45 = .ok (.istore 6, 2) := dk_54 6 (dk_at dksX0_takeOption_1 22 rfl rfl)
theorem dX0_takeOption_47 : decode cX0_takeOption 47 = .ok (.iload 6, 2) := dk_21 6 (dk_at dksX0_takeOption_2 0 rfl rfl)
theorem dX0_takeOption_49 : decode cX0_takeOption 49 = .ok (.ifCond .ge 9, 3) := dk_156 0 9 (dk_at dksX0_takeOption_2 2 rfl rfl)
theorem dX0_takeOption_52 : decode cX0_takeOption 52 = .ok (.ldc_w 344, 3) := dk_19 1 88 (dk_at dksX0_takeOption_2 5 rfl rfl)
theorem dX0_takeOption_55 : decode cX0_takeOption 55 = .ok (.goto 20, 3) := dk_167 0 20 (dk_at dksX0_takeOption_2 8 rfl rfl)
theorem dX0_takeOption_58 : decode cX0_takeOption 58 = .ok (.aload_n 0, 1) := dk_42 (dk_at dksX0_takeOption_2 11 rfl rfl)
theorem dX0_takeOption_59 : decode cX0_takeOption 59 = .ok (.iconst 1, 1) := dk_4 (dk_at dksX0_takeOption_2 12 rfl rfl)
theorem dX0_takeOption_60 : decode cX0_takeOption 60 = .ok (.iload 4, 2) := dk_21 4 (dk_at dksX0_takeOption_2 13 rfl rfl)
theorem dX0_takeOption_62 : decode cX0_takeOption 62 = .ok (.aload_n 0, 1) := dk_42 (dk_at dksX0_takeOption_2 15 rfl rfl)
theorem dX0_takeOption_63 : decode cX0_takeOption 63 = .ok (.aload 5, 2) := dk_25 5 (dk_at dksX0_takeOption_2 16 rfl rfl)
theorem dX0_takeOption_65 : decode cX0_takeOption 65 = .ok (.iload 6, 2) := dk_21 6 (dk_at dksX0_takeOption_2 18 rfl rfl)
theorem dX0_takeOption_67 : decode cX0_takeOption 67 = .ok (.invokedynamic 345, 5) := by decide +kernel
theorem dX0_takeOption_72 : decode cX0_takeOption 72 = .ok (.invokevirtual 280, 3) := dk_182 1 24 (dk_at dksX0_takeOption_3 5 rfl rfl)
theorem dX0_takeOption_75 : decode cX0_takeOption 75 = .ok (.ireturn, 1) := dk_172 (dk_at dksX0_takeOption_3 8 rfl rfl)
abbrev cX0_lambda_takeOption_4 : ByteArray := prog_1_method_81_code
def yX0_lambda_takeOption_4 : MethodName := ⟨RX0, "lambda$takeOption$4", "(LGameCalculator$Form;I)LGameCalculator$Form;"⟩
def dkwX0_lambda_takeOption_4_0 : List UInt8 := [42, 43, 28, 182, 1, 221, 176]
abbrev dktX0_lambda_takeOption_4_0 : List UInt8 := dkwX0_lambda_takeOption_4_0 ++ []
theorem dksX0_lambda_takeOption_4_0 : cX0_lambda_takeOption_4.data.toList.drop 0 = dktX0_lambda_takeOption_4_0 := by decide +kernel
theorem dX0_lambda_takeOption_4_0 : decode cX0_lambda_takeOption_4 0 = .ok (.aload_n 0, 1) := dk_42 (dk_at dksX0_lambda_takeOption_4_0 0 rfl rfl)
theorem dX0_lambda_takeOption_4_1 : decode cX0_lambda_takeOption_4 1 = .ok (.aload_n 1, 1) := dk_43 (dk_at dksX0_lambda_takeOption_4_0 1 rfl rfl)
theorem dX0_lambda_takeOption_4_2 : decode cX0_lambda_takeOption_4 2 = .ok (.iload_n 2, 1) := dk_28 (dk_at dksX0_lambda_takeOption_4_0 2 rfl rfl)
theorem dX0_lambda_takeOption_4_3 : decode cX0_lambda_takeOption_4 3 = .ok (.invokevirtual 477, 3) := dk_182 1 221 (dk_at dksX0_lambda_takeOption_4_0 3 rfl rfl)
theorem dX0_lambda_takeOption_4_6 : decode cX0_lambda_takeOption_4 6 = .ok (.areturn, 1) := dk_176 (dk_at dksX0_lambda_takeOption_4_0 6 rfl rfl)
abbrev cX0_option : ByteArray := prog_1_method_35_code
def yX0_option : MethodName := ⟨RX0, "option", "(LGameCalculator$Form;I)LGameCalculator$Form;"⟩
def dkwX0_option_0 : List UInt8 := [42, 182, 0, 26, 78, 45, 45, 43, 182, 1, 81, 28, 50, 182, 0, 42, 176]
abbrev dktX0_option_0 : List UInt8 := dkwX0_option_0 ++ []
theorem dksX0_option_0 : cX0_option.data.toList.drop 0 = dktX0_option_0 := by decide +kernel
theorem dX0_option_0 : decode cX0_option 0 = .ok (.aload_n 0, 1) := dk_42 (dk_at dksX0_option_0 0 rfl rfl)
theorem dX0_option_1 : decode cX0_option 1 = .ok (.invokevirtual 26, 3) := dk_182 0 26 (dk_at dksX0_option_0 1 rfl rfl)
theorem dX0_option_4 : decode cX0_option 4 = .ok (.astore_n 3, 1) := dk_78 (dk_at dksX0_option_0 4 rfl rfl)
theorem dX0_option_5 : decode cX0_option 5 = .ok (.aload_n 3, 1) := dk_45 (dk_at dksX0_option_0 5 rfl rfl)
theorem dX0_option_6 : decode cX0_option 6 = .ok (.aload_n 3, 1) := dk_45 (dk_at dksX0_option_0 6 rfl rfl)
theorem dX0_option_7 : decode cX0_option 7 = .ok (.aload_n 1, 1) := dk_43 (dk_at dksX0_option_0 7 rfl rfl)
theorem dX0_option_8 : decode cX0_option 8 = .ok (.invokevirtual 337, 3) := dk_182 1 81 (dk_at dksX0_option_0 8 rfl rfl)
theorem dX0_option_11 : decode cX0_option 11 = .ok (.iload_n 2, 1) := dk_28 (dk_at dksX0_option_0 11 rfl rfl)
theorem dX0_option_12 : decode cX0_option 12 = .ok (.aaload, 1) := dk_50 (dk_at dksX0_option_0 12 rfl rfl)
theorem dX0_option_13 : decode cX0_option 13 = .ok (.invokevirtual 42, 3) := dk_182 0 42 (dk_at dksX0_option_0 13 rfl rfl)
theorem dX0_option_16 : decode cX0_option 16 = .ok (.areturn, 1) := dk_176 (dk_at dksX0_option_0 16 rfl rfl)
abbrev cX0_dominoes : ByteArray := prog_1_method_39_code
def yX0_dominoes : MethodName := ⟨RX0, "dominoes", "(II)I"⟩
def dkwX0_dominoes_0 : List UInt8 := [42, 28, 3, 17, 1, 255, 184, 0, 250, 27, 42, 28, 186, 1, 96, 0, 0, 182, 1, 24, 172]
abbrev dktX0_dominoes_0 : List UInt8 := dkwX0_dominoes_0 ++ []
theorem dksX0_dominoes_0 : cX0_dominoes.data.toList.drop 0 = dktX0_dominoes_0 := by decide +kernel
theorem dX0_dominoes_0 : decode cX0_dominoes 0 = .ok (.aload_n 0, 1) := dk_42 (dk_at dksX0_dominoes_0 0 rfl rfl)
theorem dX0_dominoes_1 : decode cX0_dominoes 1 = .ok (.iload_n 2, 1) := dk_28 (dk_at dksX0_dominoes_0 1 rfl rfl)
theorem dX0_dominoes_2 : decode cX0_dominoes 2 = .ok (.iconst 0, 1) := dk_3 (dk_at dksX0_dominoes_0 2 rfl rfl)
theorem dX0_dominoes_3 : decode cX0_dominoes 3 = .ok (.sipush 511, 3) := dk_17 1 255 (dk_at dksX0_dominoes_0 3 rfl rfl)
theorem dX0_dominoes_6 : decode cX0_dominoes 6 = .ok (.invokestatic 250, 3) := dk_184 0 250 (dk_at dksX0_dominoes_0 6 rfl rfl)
theorem dX0_dominoes_9 : decode cX0_dominoes 9 = .ok (.iload_n 1, 1) := dk_27 (dk_at dksX0_dominoes_0 9 rfl rfl)
theorem dX0_dominoes_10 : decode cX0_dominoes 10 = .ok (.aload_n 0, 1) := dk_42 (dk_at dksX0_dominoes_0 10 rfl rfl)
theorem dX0_dominoes_11 : decode cX0_dominoes 11 = .ok (.iload_n 2, 1) := dk_28 (dk_at dksX0_dominoes_0 11 rfl rfl)
theorem dX0_dominoes_12 : decode cX0_dominoes 12 = .ok (.invokedynamic 352, 5) := by decide +kernel
theorem dX0_dominoes_17 : decode cX0_dominoes 17 = .ok (.invokevirtual 280, 3) := dk_182 1 24 (dk_at dksX0_dominoes_0 17 rfl rfl)
theorem dX0_dominoes_20 : decode cX0_dominoes 20 = .ok (.ireturn, 1) := dk_172 (dk_at dksX0_dominoes_0 20 rfl rfl)
abbrev cX0_lambda_dominoes_5 : ByteArray := prog_1_method_80_code
def yX0_lambda_dominoes_5 : MethodName := ⟨RX0, "lambda$dominoes$5", "(I)LGameCalculator$Form;"⟩
def dkwX0_lambda_dominoes_5_0 : List UInt8 := [42, 27, 182, 1, 218, 176]
abbrev dktX0_lambda_dominoes_5_0 : List UInt8 := dkwX0_lambda_dominoes_5_0 ++ []
theorem dksX0_lambda_dominoes_5_0 : cX0_lambda_dominoes_5.data.toList.drop 0 = dktX0_lambda_dominoes_5_0 := by decide +kernel
theorem dX0_lambda_dominoes_5_0 : decode cX0_lambda_dominoes_5 0 = .ok (.aload_n 0, 1) := dk_42 (dk_at dksX0_lambda_dominoes_5_0 0 rfl rfl)
theorem dX0_lambda_dominoes_5_1 : decode cX0_lambda_dominoes_5 1 = .ok (.iload_n 1, 1) := dk_27 (dk_at dksX0_lambda_dominoes_5_0 1 rfl rfl)
theorem dX0_lambda_dominoes_5_2 : decode cX0_lambda_dominoes_5 2 = .ok (.invokevirtual 474, 3) := dk_182 1 218 (dk_at dksX0_lambda_dominoes_5_0 2 rfl rfl)
theorem dX0_lambda_dominoes_5_5 : decode cX0_lambda_dominoes_5 5 = .ok (.areturn, 1) := dk_176 (dk_at dksX0_lambda_dominoes_5_0 5 rfl rfl)
abbrev cX0_dominoForm : ByteArray := prog_1_method_38_code
def yX0_dominoForm : MethodName := ⟨RX0, "dominoForm", "(I)LGameCalculator$Form;"⟩
def dkwX0_dominoForm_0 : List UInt8 := [42, 182, 0, 26, 77, 44, 42, 27, 44, 17, 2, 0, 189, 0, 68, 182, 1, 92, 182, 0, 42, 176]
abbrev dktX0_dominoForm_0 : List UInt8 := dkwX0_dominoForm_0 ++ []
theorem dksX0_dominoForm_0 : cX0_dominoForm.data.toList.drop 0 = dktX0_dominoForm_0 := by decide +kernel
theorem dX0_dominoForm_0 : decode cX0_dominoForm 0 = .ok (.aload_n 0, 1) := dk_42 (dk_at dksX0_dominoForm_0 0 rfl rfl)
theorem dX0_dominoForm_1 : decode cX0_dominoForm 1 = .ok (.invokevirtual 26, 3) := dk_182 0 26 (dk_at dksX0_dominoForm_0 1 rfl rfl)
theorem dX0_dominoForm_4 : decode cX0_dominoForm 4 = .ok (.astore_n 2, 1) := dk_77 (dk_at dksX0_dominoForm_0 4 rfl rfl)
theorem dX0_dominoForm_5 : decode cX0_dominoForm 5 = .ok (.aload_n 2, 1) := dk_44 (dk_at dksX0_dominoForm_0 5 rfl rfl)
theorem dX0_dominoForm_6 : decode cX0_dominoForm 6 = .ok (.aload_n 0, 1) := dk_42 (dk_at dksX0_dominoForm_0 6 rfl rfl)
theorem dX0_dominoForm_7 : decode cX0_dominoForm 7 = .ok (.iload_n 1, 1) := dk_27 (dk_at dksX0_dominoForm_0 7 rfl rfl)
theorem dX0_dominoForm_8 : decode cX0_dominoForm 8 = .ok (.aload_n 2, 1) := dk_44 (dk_at dksX0_dominoForm_0 8 rfl rfl)
theorem dX0_dominoForm_9 : decode cX0_dominoForm 9 = .ok (.sipush 512, 3) := dk_17 2 0 (dk_at dksX0_dominoForm_0 9 rfl rfl)
theorem dX0_dominoForm_12 : decode cX0_dominoForm 12 = .ok (.anewarray 68, 3) := dk_189 0 68 (dk_at dksX0_dominoForm_0 12 rfl rfl)
theorem dX0_dominoForm_15 : decode cX0_dominoForm 15 = .ok (.invokevirtual 348, 3) := dk_182 1 92 (dk_at dksX0_dominoForm_0 15 rfl rfl)
theorem dX0_dominoForm_18 : decode cX0_dominoForm 18 = .ok (.invokevirtual 42, 3) := dk_182 0 42 (dk_at dksX0_dominoForm_0 18 rfl rfl)
theorem dX0_dominoForm_21 : decode cX0_dominoForm 21 = .ok (.areturn, 1) := dk_176 (dk_at dksX0_dominoForm_0 21 rfl rfl)
abbrev cX0_domino : ByteArray := prog_1_method_37_code
def yX0_domino : MethodName := ⟨RX0, "domino", "(ILGameCalculator$Arena;[LGameCalculator$Game;)LGameCalculator$Game;"⟩
def dkwX0_domino_5 : List UInt8 := [132, 6, 1, 167, 255, 155, 45, 27, 44, 25, 4, 25, 5, 182, 0, 38, 83, 45, 27, 50, 176]
abbrev dktX0_domino_5 : List UInt8 := dkwX0_domino_5 ++ []
def dkwX0_domino_4 : List UInt8 := [27, 21, 8, 126, 21, 8, 160, 0, 18, 25, 5, 42, 27, 21, 8, 100, 44, 45, 182, 1, 92, 184, 0, 60]
abbrev dktX0_domino_4 : List UInt8 := dkwX0_domino_4 ++ dktX0_domino_5
def dkwX0_domino_3 : List UInt8 := [184, 0, 60, 4, 21, 6, 120, 4, 21, 6, 4, 96, 120, 128, 54, 8, 21, 6, 6, 112, 5, 162, 0, 27]
abbrev dktX0_domino_3 : List UInt8 := dkwX0_domino_3 ++ dktX0_domino_4
def dkwX0_domino_2 : List UInt8 := [162, 0, 27, 27, 21, 7, 126, 21, 7, 160, 0, 18, 25, 4, 42, 27, 21, 7, 100, 44, 45, 182, 1, 92]
abbrev dktX0_domino_2 : List UInt8 := dkwX0_domino_2 ++ dktX0_domino_3
def dkwX0_domino_1 : List UInt8 := [16, 9, 162, 0, 100, 4, 21, 6, 120, 4, 21, 6, 6, 96, 120, 128, 54, 7, 21, 6, 6, 96, 16, 9]
abbrev dktX0_domino_1 : List UInt8 := dkwX0_domino_1 ++ dktX0_domino_2
def dkwX0_domino_0 : List UInt8 := [45, 27, 50, 199, 0, 133, 44, 182, 0, 46, 58, 4, 44, 182, 0, 46, 58, 5, 3, 54, 6, 21, 6]
abbrev dktX0_domino_0 : List UInt8 := dkwX0_domino_0 ++ dktX0_domino_1
theorem dksX0_domino_0 : cX0_domino.data.toList.drop 0 = dktX0_domino_0 := by decide +kernel
theorem dksX0_domino_1 : cX0_domino.data.toList.drop 23 = dktX0_domino_1 := dk_seg dksX0_domino_0 23 rfl rfl
theorem dksX0_domino_2 : cX0_domino.data.toList.drop 47 = dktX0_domino_2 := dk_seg dksX0_domino_1 24 rfl rfl
theorem dksX0_domino_3 : cX0_domino.data.toList.drop 71 = dktX0_domino_3 := dk_seg dksX0_domino_2 24 rfl rfl
theorem dksX0_domino_4 : cX0_domino.data.toList.drop 95 = dktX0_domino_4 := dk_seg dksX0_domino_3 24 rfl rfl
theorem dksX0_domino_5 : cX0_domino.data.toList.drop 119 = dktX0_domino_5 := dk_seg dksX0_domino_4 24 rfl rfl
theorem dX0_domino_0 : decode cX0_domino 0 = .ok (.aload_n 3, 1) := dk_45 (dk_at dksX0_domino_0 0 rfl rfl)
theorem dX0_domino_1 : decode cX0_domino 1 = .ok (.iload_n 1, 1) := dk_27 (dk_at dksX0_domino_0 1 rfl rfl)
theorem dX0_domino_2 : decode cX0_domino 2 = .ok (.aaload, 1) := dk_50 (dk_at dksX0_domino_0 2 rfl rfl)
theorem dX0_domino_3 : decode cX0_domino 3 = .ok (.ifnonnull 133, 3) := dk_199 0 133 (dk_at dksX0_domino_0 3 rfl rfl)
theorem dX0_domino_6 : decode cX0_domino 6 = .ok (.aload_n 2, 1) := dk_44 (dk_at dksX0_domino_0 6 rfl rfl)
theorem dX0_domino_7 : decode cX0_domino 7 = .ok (.invokevirtual 46, 3) := dk_182 0 46 (dk_at dksX0_domino_0 7 rfl rfl)
theorem dX0_domino_10 : decode cX0_domino 10 = .ok (.astore 4, 2) := dk_58 4 (dk_at dksX0_domino_0 10 rfl rfl)
theorem dX0_domino_12 : decode cX0_domino 12 = .ok (.aload_n 2, 1) := dk_44 (dk_at dksX0_domino_0 12 rfl rfl)
theorem dX0_domino_13 : decode cX0_domino 13 = .ok (.invokevirtual 46, 3) := dk_182 0 46 (dk_at dksX0_domino_0 13 rfl rfl)
theorem dX0_domino_16 : decode cX0_domino 16 = .ok (.astore 5, 2) := dk_58 5 (dk_at dksX0_domino_0 16 rfl rfl)
theorem dX0_domino_18 : decode cX0_domino 18 = .ok (.iconst 0, 1) := dk_3 (dk_at dksX0_domino_0 18 rfl rfl)
theorem dX0_domino_19 : decode cX0_domino 19 = .ok (.istore 6, 2) := dk_54 6 (dk_at dksX0_domino_0 19 rfl rfl)
theorem dX0_domino_21 : decode cX0_domino 21 = .ok (.iload 6, 2) := dk_21 6 (dk_at dksX0_domino_0 21 rfl rfl)
theorem dX0_domino_23 : decode cX0_domino 23 = .ok (.bipush 9, 2) := dk_16 9 (dk_at dksX0_domino_1 0 rfl rfl)
theorem dX0_domino_25 : decode cX0_domino 25 = .ok (.if_icmp .ge 100, 3) := dk_162 0 100 (dk_at dksX0_domino_1 2 rfl rfl)
theorem dX0_domino_28 : decode cX0_domino 28 = .ok (.iconst 1, 1) := dk_4 (dk_at dksX0_domino_1 5 rfl rfl)
theorem dX0_domino_29 : decode cX0_domino 29 = .ok (.iload 6, 2) := dk_21 6 (dk_at dksX0_domino_1 6 rfl rfl)
theorem dX0_domino_31 : decode cX0_domino 31 = .ok (.ishl, 1) := dk_120 (dk_at dksX0_domino_1 8 rfl rfl)
theorem dX0_domino_32 : decode cX0_domino 32 = .ok (.iconst 1, 1) := dk_4 (dk_at dksX0_domino_1 9 rfl rfl)
theorem dX0_domino_33 : decode cX0_domino 33 = .ok (.iload 6, 2) := dk_21 6 (dk_at dksX0_domino_1 10 rfl rfl)
theorem dX0_domino_35 : decode cX0_domino 35 = .ok (.iconst 3, 1) := dk_6 (dk_at dksX0_domino_1 12 rfl rfl)
theorem dX0_domino_36 : decode cX0_domino 36 = .ok (.iadd, 1) := dk_96 (dk_at dksX0_domino_1 13 rfl rfl)
theorem dX0_domino_37 : decode cX0_domino 37 = .ok (.ishl, 1) := dk_120 (dk_at dksX0_domino_1 14 rfl rfl)
theorem dX0_domino_38 : decode cX0_domino 38 = .ok (.ior, 1) := dk_128 (dk_at dksX0_domino_1 15 rfl rfl)
theorem dX0_domino_39 : decode cX0_domino 39 = .ok (.istore 7, 2) := dk_54 7 (dk_at dksX0_domino_1 16 rfl rfl)
theorem dX0_domino_41 : decode cX0_domino 41 = .ok (.iload 6, 2) := dk_21 6 (dk_at dksX0_domino_1 18 rfl rfl)
theorem dX0_domino_43 : decode cX0_domino 43 = .ok (.iconst 3, 1) := dk_6 (dk_at dksX0_domino_1 20 rfl rfl)
theorem dX0_domino_44 : decode cX0_domino 44 = .ok (.iadd, 1) := dk_96 (dk_at dksX0_domino_1 21 rfl rfl)
theorem dX0_domino_45 : decode cX0_domino 45 = .ok (.bipush 9, 2) := dk_16 9 (dk_at dksX0_domino_1 22 rfl rfl)
theorem dX0_domino_47 : decode cX0_domino 47 = .ok (.if_icmp .ge 27, 3) := dk_162 0 27 (dk_at dksX0_domino_2 0 rfl rfl)
theorem dX0_domino_50 : decode cX0_domino 50 = .ok (.iload_n 1, 1) := dk_27 (dk_at dksX0_domino_2 3 rfl rfl)
theorem dX0_domino_51 : decode cX0_domino 51 = .ok (.iload 7, 2) := dk_21 7 (dk_at dksX0_domino_2 4 rfl rfl)
theorem dX0_domino_53 : decode cX0_domino 53 = .ok (.iand, 1) := dk_126 (dk_at dksX0_domino_2 6 rfl rfl)
theorem dX0_domino_54 : decode cX0_domino 54 = .ok (.iload 7, 2) := dk_21 7 (dk_at dksX0_domino_2 7 rfl rfl)
theorem dX0_domino_56 : decode cX0_domino 56 = .ok (.if_icmp .ne 18, 3) := dk_160 0 18 (dk_at dksX0_domino_2 9 rfl rfl)
theorem dX0_domino_59 : decode cX0_domino 59 = .ok (.aload 4, 2) := dk_25 4 (dk_at dksX0_domino_2 12 rfl rfl)
theorem dX0_domino_61 : decode cX0_domino 61 = .ok (.aload_n 0, 1) := dk_42 (dk_at dksX0_domino_2 14 rfl rfl)
theorem dX0_domino_62 : decode cX0_domino 62 = .ok (.iload_n 1, 1) := dk_27 (dk_at dksX0_domino_2 15 rfl rfl)
theorem dX0_domino_63 : decode cX0_domino 63 = .ok (.iload 7, 2) := dk_21 7 (dk_at dksX0_domino_2 16 rfl rfl)
theorem dX0_domino_65 : decode cX0_domino 65 = .ok (.isub, 1) := dk_100 (dk_at dksX0_domino_2 18 rfl rfl)
theorem dX0_domino_66 : decode cX0_domino 66 = .ok (.aload_n 2, 1) := dk_44 (dk_at dksX0_domino_2 19 rfl rfl)
theorem dX0_domino_67 : decode cX0_domino 67 = .ok (.aload_n 3, 1) := dk_45 (dk_at dksX0_domino_2 20 rfl rfl)
theorem dX0_domino_68 : decode cX0_domino 68 = .ok (.invokevirtual 348, 3) := dk_182 1 92 (dk_at dksX0_domino_2 21 rfl rfl)
theorem dX0_domino_71 : decode cX0_domino 71 = .ok (.invokestatic 60, 3) := dk_184 0 60 (dk_at dksX0_domino_3 0 rfl rfl)
theorem dX0_domino_74 : decode cX0_domino 74 = .ok (.iconst 1, 1) := dk_4 (dk_at dksX0_domino_3 3 rfl rfl)
theorem dX0_domino_75 : decode cX0_domino 75 = .ok (.iload 6, 2) := dk_21 6 (dk_at dksX0_domino_3 4 rfl rfl)
theorem dX0_domino_77 : decode cX0_domino 77 = .ok (.ishl, 1) := dk_120 (dk_at dksX0_domino_3 6 rfl rfl)
theorem dX0_domino_78 : decode cX0_domino 78 = .ok (.iconst 1, 1) := dk_4 (dk_at dksX0_domino_3 7 rfl rfl)
theorem dX0_domino_79 : decode cX0_domino 79 = .ok (.iload 6, 2) := dk_21 6 (dk_at dksX0_domino_3 8 rfl rfl)
theorem dX0_domino_81 : decode cX0_domino 81 = .ok (.iconst 1, 1) := dk_4 (dk_at dksX0_domino_3 10 rfl rfl)
theorem dX0_domino_82 : decode cX0_domino 82 = .ok (.iadd, 1) := dk_96 (dk_at dksX0_domino_3 11 rfl rfl)
theorem dX0_domino_83 : decode cX0_domino 83 = .ok (.ishl, 1) := dk_120 (dk_at dksX0_domino_3 12 rfl rfl)
theorem dX0_domino_84 : decode cX0_domino 84 = .ok (.ior, 1) := dk_128 (dk_at dksX0_domino_3 13 rfl rfl)
theorem dX0_domino_85 : decode cX0_domino 85 = .ok (.istore 8, 2) := dk_54 8 (dk_at dksX0_domino_3 14 rfl rfl)
theorem dX0_domino_87 : decode cX0_domino 87 = .ok (.iload 6, 2) := dk_21 6 (dk_at dksX0_domino_3 16 rfl rfl)
theorem dX0_domino_89 : decode cX0_domino 89 = .ok (.iconst 3, 1) := dk_6 (dk_at dksX0_domino_3 18 rfl rfl)
theorem dX0_domino_90 : decode cX0_domino 90 = .ok (.irem, 1) := dk_112 (dk_at dksX0_domino_3 19 rfl rfl)
theorem dX0_domino_91 : decode cX0_domino 91 = .ok (.iconst 2, 1) := dk_5 (dk_at dksX0_domino_3 20 rfl rfl)
theorem dX0_domino_92 : decode cX0_domino 92 = .ok (.if_icmp .ge 27, 3) := dk_162 0 27 (dk_at dksX0_domino_3 21 rfl rfl)
theorem dX0_domino_95 : decode cX0_domino 95 = .ok (.iload_n 1, 1) := dk_27 (dk_at dksX0_domino_4 0 rfl rfl)
theorem dX0_domino_96 : decode cX0_domino 96 = .ok (.iload 8, 2) := dk_21 8 (dk_at dksX0_domino_4 1 rfl rfl)
theorem dX0_domino_98 : decode cX0_domino 98 = .ok (.iand, 1) := dk_126 (dk_at dksX0_domino_4 3 rfl rfl)
theorem dX0_domino_99 : decode cX0_domino 99 = .ok (.iload 8, 2) := dk_21 8 (dk_at dksX0_domino_4 4 rfl rfl)
theorem dX0_domino_101 : decode cX0_domino 101 = .ok (.if_icmp .ne 18, 3) := dk_160 0 18 (dk_at dksX0_domino_4 6 rfl rfl)
theorem dX0_domino_104 : decode cX0_domino 104 = .ok (.aload 5, 2) := dk_25 5 (dk_at dksX0_domino_4 9 rfl rfl)
theorem dX0_domino_106 : decode cX0_domino 106 = .ok (.aload_n 0, 1) := dk_42 (dk_at dksX0_domino_4 11 rfl rfl)
theorem dX0_domino_107 : decode cX0_domino 107 = .ok (.iload_n 1, 1) := dk_27 (dk_at dksX0_domino_4 12 rfl rfl)
theorem dX0_domino_108 : decode cX0_domino 108 = .ok (.iload 8, 2) := dk_21 8 (dk_at dksX0_domino_4 13 rfl rfl)
theorem dX0_domino_110 : decode cX0_domino 110 = .ok (.isub, 1) := dk_100 (dk_at dksX0_domino_4 15 rfl rfl)
theorem dX0_domino_111 : decode cX0_domino 111 = .ok (.aload_n 2, 1) := dk_44 (dk_at dksX0_domino_4 16 rfl rfl)
theorem dX0_domino_112 : decode cX0_domino 112 = .ok (.aload_n 3, 1) := dk_45 (dk_at dksX0_domino_4 17 rfl rfl)
theorem dX0_domino_113 : decode cX0_domino 113 = .ok (.invokevirtual 348, 3) := dk_182 1 92 (dk_at dksX0_domino_4 18 rfl rfl)
theorem dX0_domino_116 : decode cX0_domino 116 = .ok (.invokestatic 60, 3) := dk_184 0 60 (dk_at dksX0_domino_4 21 rfl rfl)
theorem dX0_domino_119 : decode cX0_domino 119 = .ok (.iinc 6 1, 3) := dk_132 6 1 (dk_at dksX0_domino_5 0 rfl rfl)
theorem dX0_domino_122 : decode cX0_domino 122 = .ok (.goto (-101), 3) := dk_167 255 155 (dk_at dksX0_domino_5 3 rfl rfl)
theorem dX0_domino_125 : decode cX0_domino 125 = .ok (.aload_n 3, 1) := dk_45 (dk_at dksX0_domino_5 6 rfl rfl)
theorem dX0_domino_126 : decode cX0_domino 126 = .ok (.iload_n 1, 1) := dk_27 (dk_at dksX0_domino_5 7 rfl rfl)
theorem dX0_domino_127 : decode cX0_domino 127 = .ok (.aload_n 2, 1) := dk_44 (dk_at dksX0_domino_5 8 rfl rfl)
theorem dX0_domino_128 : decode cX0_domino 128 = .ok (.aload 4, 2) := dk_25 4 (dk_at dksX0_domino_5 9 rfl rfl)
theorem dX0_domino_130 : decode cX0_domino 130 = .ok (.aload 5, 2) := dk_25 5 (dk_at dksX0_domino_5 11 rfl rfl)
theorem dX0_domino_132 : decode cX0_domino 132 = .ok (.invokevirtual 38, 3) := dk_182 0 38 (dk_at dksX0_domino_5 13 rfl rfl)
theorem dX0_domino_135 : decode cX0_domino 135 = .ok (.aastore, 1) := dk_83 (dk_at dksX0_domino_5 16 rfl rfl)
theorem dX0_domino_136 : decode cX0_domino 136 = .ok (.aload_n 3, 1) := dk_45 (dk_at dksX0_domino_5 17 rfl rfl)
theorem dX0_domino_137 : decode cX0_domino 137 = .ok (.iload_n 1, 1) := dk_27 (dk_at dksX0_domino_5 18 rfl rfl)
theorem dX0_domino_138 : decode cX0_domino 138 = .ok (.aaload, 1) := dk_50 (dk_at dksX0_domino_5 19 rfl rfl)
theorem dX0_domino_139 : decode cX0_domino 139 = .ok (.areturn, 1) := dk_176 (dk_at dksX0_domino_5 20 rfl rfl)
abbrev cX0_negate : ByteArray := prog_1_method_40_code
def yX0_negate : MethodName := ⟨RX0, "negate", "(II)I"⟩
def dkwX0_negate_0 : List UInt8 := [42, 27, 184, 0, 254, 28, 42, 27, 186, 1, 97, 0, 0, 182, 1, 24, 172]
abbrev dktX0_negate_0 : List UInt8 := dkwX0_negate_0 ++ []
theorem dksX0_negate_0 : cX0_negate.data.toList.drop 0 = dktX0_negate_0 := by decide +kernel
theorem dX0_negate_0 : decode cX0_negate 0 = .ok (.aload_n 0, 1) := dk_42 (dk_at dksX0_negate_0 0 rfl rfl)
theorem dX0_negate_1 : decode cX0_negate 1 = .ok (.iload_n 1, 1) := dk_27 (dk_at dksX0_negate_0 1 rfl rfl)
theorem dX0_negate_2 : decode cX0_negate 2 = .ok (.invokestatic 254, 3) := dk_184 0 254 (dk_at dksX0_negate_0 2 rfl rfl)
theorem dX0_negate_5 : decode cX0_negate 5 = .ok (.iload_n 2, 1) := dk_28 (dk_at dksX0_negate_0 5 rfl rfl)
theorem dX0_negate_6 : decode cX0_negate 6 = .ok (.aload_n 0, 1) := dk_42 (dk_at dksX0_negate_0 6 rfl rfl)
theorem dX0_negate_7 : decode cX0_negate 7 = .ok (.iload_n 1, 1) := dk_27 (dk_at dksX0_negate_0 7 rfl rfl)
theorem dX0_negate_8 : decode cX0_negate 8 = .ok (.invokedynamic 353, 5) := by decide +kernel
theorem dX0_negate_13 : decode cX0_negate 13 = .ok (.invokevirtual 280, 3) := dk_182 1 24 (dk_at dksX0_negate_0 13 rfl rfl)
theorem dX0_negate_16 : decode cX0_negate 16 = .ok (.ireturn, 1) := dk_172 (dk_at dksX0_negate_0 16 rfl rfl)
abbrev cX0_lambda_negate_6 : ByteArray := prog_1_method_79_code
def yX0_lambda_negate_6 : MethodName := ⟨RX0, "lambda$negate$6", "(I)LGameCalculator$Form;"⟩
def dkwX0_lambda_negate_6_0 : List UInt8 := [42, 42, 180, 0, 217, 27, 50, 182, 0, 143, 176]
abbrev dktX0_lambda_negate_6_0 : List UInt8 := dkwX0_lambda_negate_6_0 ++ []
theorem dksX0_lambda_negate_6_0 : cX0_lambda_negate_6.data.toList.drop 0 = dktX0_lambda_negate_6_0 := by decide +kernel
theorem dX0_lambda_negate_6_0 : decode cX0_lambda_negate_6 0 = .ok (.aload_n 0, 1) := dk_42 (dk_at dksX0_lambda_negate_6_0 0 rfl rfl)
theorem dX0_lambda_negate_6_1 : decode cX0_lambda_negate_6 1 = .ok (.aload_n 0, 1) := dk_42 (dk_at dksX0_lambda_negate_6_0 1 rfl rfl)
theorem dX0_lambda_negate_6_2 : decode cX0_lambda_negate_6 2 = .ok (.getfield 217, 3) := dk_180 0 217 (dk_at dksX0_lambda_negate_6_0 2 rfl rfl)
theorem dX0_lambda_negate_6_5 : decode cX0_lambda_negate_6 5 = .ok (.iload_n 1, 1) := dk_27 (dk_at dksX0_lambda_negate_6_0 5 rfl rfl)
theorem dX0_lambda_negate_6_6 : decode cX0_lambda_negate_6 6 = .ok (.aaload, 1) := dk_50 (dk_at dksX0_lambda_negate_6_0 6 rfl rfl)
theorem dX0_lambda_negate_6_7 : decode cX0_lambda_negate_6 7 = .ok (.invokevirtual 143, 3) := dk_182 0 143 (dk_at dksX0_lambda_negate_6_0 7 rfl rfl)
theorem dX0_lambda_negate_6_10 : decode cX0_lambda_negate_6 10 = .ok (.areturn, 1) := dk_176 (dk_at dksX0_lambda_negate_6_0 10 rfl rfl)
abbrev cX0_add : ByteArray := prog_1_method_42_code
def yX0_add : MethodName := ⟨RX0, "add", "(III)I"⟩
def dkwX0_add_0 : List UInt8 := [42, 27, 28, 184, 1, 98, 29, 42, 27, 28, 186, 1, 102, 0, 0, 182, 1, 24, 172]
abbrev dktX0_add_0 : List UInt8 := dkwX0_add_0 ++ []
theorem dksX0_add_0 : cX0_add.data.toList.drop 0 = dktX0_add_0 := by decide +kernel
theorem dX0_add_0 : decode cX0_add 0 = .ok (.aload_n 0, 1) := dk_42 (dk_at dksX0_add_0 0 rfl rfl)
theorem dX0_add_1 : decode cX0_add 1 = .ok (.iload_n 1, 1) := dk_27 (dk_at dksX0_add_0 1 rfl rfl)
theorem dX0_add_2 : decode cX0_add 2 = .ok (.iload_n 2, 1) := dk_28 (dk_at dksX0_add_0 2 rfl rfl)
theorem dX0_add_3 : decode cX0_add 3 = .ok (.invokestatic 354, 3) := dk_184 1 98 (dk_at dksX0_add_0 3 rfl rfl)
theorem dX0_add_6 : decode cX0_add 6 = .ok (.iload_n 3, 1) := dk_29 (dk_at dksX0_add_0 6 rfl rfl)
theorem dX0_add_7 : decode cX0_add 7 = .ok (.aload_n 0, 1) := dk_42 (dk_at dksX0_add_0 7 rfl rfl)
theorem dX0_add_8 : decode cX0_add 8 = .ok (.iload_n 1, 1) := dk_27 (dk_at dksX0_add_0 8 rfl rfl)
theorem dX0_add_9 : decode cX0_add 9 = .ok (.iload_n 2, 1) := dk_28 (dk_at dksX0_add_0 9 rfl rfl)
theorem dX0_add_10 : decode cX0_add 10 = .ok (.invokedynamic 358, 5) := by decide +kernel
theorem dX0_add_15 : decode cX0_add 15 = .ok (.invokevirtual 280, 3) := dk_182 1 24 (dk_at dksX0_add_0 15 rfl rfl)
theorem dX0_add_18 : decode cX0_add 18 = .ok (.ireturn, 1) := dk_172 (dk_at dksX0_add_0 18 rfl rfl)
abbrev cX0_areSlots : ByteArray := prog_1_method_41_code
def yX0_areSlots : MethodName := ⟨RX0, "areSlots", "(II)Z"⟩
def dkwX0_areSlots_0 : List UInt8 := [26, 184, 0, 254, 153, 0, 14, 27, 184, 0, 254, 153, 0, 7, 4, 167, 0, 4, 3, 172]
abbrev dktX0_areSlots_0 : List UInt8 := dkwX0_areSlots_0 ++ []
theorem dksX0_areSlots_0 : cX0_areSlots.data.toList.drop 0 = dktX0_areSlots_0 := by decide +kernel
theorem dX0_areSlots_0 : decode cX0_areSlots 0 = .ok (.iload_n 0, 1) := dk_26 (dk_at dksX0_areSlots_0 0 rfl rfl)
theorem dX0_areSlots_1 : decode cX0_areSlots 1 = .ok (.invokestatic 254, 3) := dk_184 0 254 (dk_at dksX0_areSlots_0 1 rfl rfl)
theorem dX0_areSlots_4 : decode cX0_areSlots 4 = .ok (.ifCond .eq 14, 3) := dk_153 0 14 (dk_at dksX0_areSlots_0 4 rfl rfl)
theorem dX0_areSlots_7 : decode cX0_areSlots 7 = .ok (.iload_n 1, 1) := dk_27 (dk_at dksX0_areSlots_0 7 rfl rfl)
theorem dX0_areSlots_8 : decode cX0_areSlots 8 = .ok (.invokestatic 254, 3) := dk_184 0 254 (dk_at dksX0_areSlots_0 8 rfl rfl)
theorem dX0_areSlots_11 : decode cX0_areSlots 11 = .ok (.ifCond .eq 7, 3) := dk_153 0 7 (dk_at dksX0_areSlots_0 11 rfl rfl)
theorem dX0_areSlots_14 : decode cX0_areSlots 14 = .ok (.iconst 1, 1) := dk_4 (dk_at dksX0_areSlots_0 14 rfl rfl)
theorem dX0_areSlots_15 : decode cX0_areSlots 15 = .ok (.goto 4, 3) := dk_167 0 4 (dk_at dksX0_areSlots_0 15 rfl rfl)
theorem dX0_areSlots_18 : decode cX0_areSlots 18 = .ok (.iconst 0, 1) := dk_3 (dk_at dksX0_areSlots_0 18 rfl rfl)
theorem dX0_areSlots_19 : decode cX0_areSlots 19 = .ok (.ireturn, 1) := dk_172 (dk_at dksX0_areSlots_0 19 rfl rfl)
abbrev cX0_lambda_add_7 : ByteArray := prog_1_method_78_code
def yX0_lambda_add_7 : MethodName := ⟨RX0, "lambda$add$7", "(II)LGameCalculator$Form;"⟩
def dkwX0_lambda_add_7_0 : List UInt8 := [42, 42, 180, 0, 217, 27, 50, 42, 180, 0, 217, 28, 50, 182, 0, 139, 176]
abbrev dktX0_lambda_add_7_0 : List UInt8 := dkwX0_lambda_add_7_0 ++ []
theorem dksX0_lambda_add_7_0 : cX0_lambda_add_7.data.toList.drop 0 = dktX0_lambda_add_7_0 := by decide +kernel
theorem dX0_lambda_add_7_0 : decode cX0_lambda_add_7 0 = .ok (.aload_n 0, 1) := dk_42 (dk_at dksX0_lambda_add_7_0 0 rfl rfl)
theorem dX0_lambda_add_7_1 : decode cX0_lambda_add_7 1 = .ok (.aload_n 0, 1) := dk_42 (dk_at dksX0_lambda_add_7_0 1 rfl rfl)
theorem dX0_lambda_add_7_2 : decode cX0_lambda_add_7 2 = .ok (.getfield 217, 3) := dk_180 0 217 (dk_at dksX0_lambda_add_7_0 2 rfl rfl)
theorem dX0_lambda_add_7_5 : decode cX0_lambda_add_7 5 = .ok (.iload_n 1, 1) := dk_27 (dk_at dksX0_lambda_add_7_0 5 rfl rfl)
theorem dX0_lambda_add_7_6 : decode cX0_lambda_add_7 6 = .ok (.aaload, 1) := dk_50 (dk_at dksX0_lambda_add_7_0 6 rfl rfl)
theorem dX0_lambda_add_7_7 : decode cX0_lambda_add_7 7 = .ok (.aload_n 0, 1) := dk_42 (dk_at dksX0_lambda_add_7_0 7 rfl rfl)
theorem dX0_lambda_add_7_8 : decode cX0_lambda_add_7 8 = .ok (.getfield 217, 3) := dk_180 0 217 (dk_at dksX0_lambda_add_7_0 8 rfl rfl)
theorem dX0_lambda_add_7_11 : decode cX0_lambda_add_7 11 = .ok (.iload_n 2, 1) := dk_28 (dk_at dksX0_lambda_add_7_0 11 rfl rfl)
theorem dX0_lambda_add_7_12 : decode cX0_lambda_add_7 12 = .ok (.aaload, 1) := dk_50 (dk_at dksX0_lambda_add_7_0 12 rfl rfl)
theorem dX0_lambda_add_7_13 : decode cX0_lambda_add_7 13 = .ok (.invokevirtual 139, 3) := dk_182 0 139 (dk_at dksX0_lambda_add_7_0 13 rfl rfl)
theorem dX0_lambda_add_7_16 : decode cX0_lambda_add_7 16 = .ok (.areturn, 1) := dk_176 (dk_at dksX0_lambda_add_7_0 16 rfl rfl)
abbrev cX0_subtract : ByteArray := prog_1_method_43_code
def yX0_subtract : MethodName := ⟨RX0, "subtract", "(III)I"⟩
def dkwX0_subtract_0 : List UInt8 := [42, 27, 28, 184, 1, 98, 29, 42, 27, 28, 186, 1, 103, 0, 0, 182, 1, 24, 172]
abbrev dktX0_subtract_0 : List UInt8 := dkwX0_subtract_0 ++ []
theorem dksX0_subtract_0 : cX0_subtract.data.toList.drop 0 = dktX0_subtract_0 := by decide +kernel
theorem dX0_subtract_0 : decode cX0_subtract 0 = .ok (.aload_n 0, 1) := dk_42 (dk_at dksX0_subtract_0 0 rfl rfl)
theorem dX0_subtract_1 : decode cX0_subtract 1 = .ok (.iload_n 1, 1) := dk_27 (dk_at dksX0_subtract_0 1 rfl rfl)
theorem dX0_subtract_2 : decode cX0_subtract 2 = .ok (.iload_n 2, 1) := dk_28 (dk_at dksX0_subtract_0 2 rfl rfl)
theorem dX0_subtract_3 : decode cX0_subtract 3 = .ok (.invokestatic 354, 3) := dk_184 1 98 (dk_at dksX0_subtract_0 3 rfl rfl)
theorem dX0_subtract_6 : decode cX0_subtract 6 = .ok (.iload_n 3, 1) := dk_29 (dk_at dksX0_subtract_0 6 rfl rfl)
theorem dX0_subtract_7 : decode cX0_subtract 7 = .ok (.aload_n 0, 1) := dk_42 (dk_at dksX0_subtract_0 7 rfl rfl)
theorem dX0_subtract_8 : decode cX0_subtract 8 = .ok (.iload_n 1, 1) := dk_27 (dk_at dksX0_subtract_0 8 rfl rfl)
theorem dX0_subtract_9 : decode cX0_subtract 9 = .ok (.iload_n 2, 1) := dk_28 (dk_at dksX0_subtract_0 9 rfl rfl)
theorem dX0_subtract_10 : decode cX0_subtract 10 = .ok (.invokedynamic 359, 5) := by decide +kernel
theorem dX0_subtract_15 : decode cX0_subtract 15 = .ok (.invokevirtual 280, 3) := dk_182 1 24 (dk_at dksX0_subtract_0 15 rfl rfl)
theorem dX0_subtract_18 : decode cX0_subtract 18 = .ok (.ireturn, 1) := dk_172 (dk_at dksX0_subtract_0 18 rfl rfl)
abbrev cX0_lambda_subtract_8 : ByteArray := prog_1_method_77_code
def yX0_lambda_subtract_8 : MethodName := ⟨RX0, "lambda$subtract$8", "(II)LGameCalculator$Form;"⟩
def dkwX0_lambda_subtract_8_0 : List UInt8 := [42, 42, 180, 0, 217, 27, 50, 42, 42, 180, 0, 217, 28, 50, 182, 0, 143, 182, 0, 139, 176]
abbrev dktX0_lambda_subtract_8_0 : List UInt8 := dkwX0_lambda_subtract_8_0 ++ []
theorem dksX0_lambda_subtract_8_0 : cX0_lambda_subtract_8.data.toList.drop 0 = dktX0_lambda_subtract_8_0 := by decide +kernel
theorem dX0_lambda_subtract_8_0 : decode cX0_lambda_subtract_8 0 = .ok (.aload_n 0, 1) := dk_42 (dk_at dksX0_lambda_subtract_8_0 0 rfl rfl)
theorem dX0_lambda_subtract_8_1 : decode cX0_lambda_subtract_8 1 = .ok (.aload_n 0, 1) := dk_42 (dk_at dksX0_lambda_subtract_8_0 1 rfl rfl)
theorem dX0_lambda_subtract_8_2 : decode cX0_lambda_subtract_8 2 = .ok (.getfield 217, 3) := dk_180 0 217 (dk_at dksX0_lambda_subtract_8_0 2 rfl rfl)
theorem dX0_lambda_subtract_8_5 : decode cX0_lambda_subtract_8 5 = .ok (.iload_n 1, 1) := dk_27 (dk_at dksX0_lambda_subtract_8_0 5 rfl rfl)
theorem dX0_lambda_subtract_8_6 : decode cX0_lambda_subtract_8 6 = .ok (.aaload, 1) := dk_50 (dk_at dksX0_lambda_subtract_8_0 6 rfl rfl)
theorem dX0_lambda_subtract_8_7 : decode cX0_lambda_subtract_8 7 = .ok (.aload_n 0, 1) := dk_42 (dk_at dksX0_lambda_subtract_8_0 7 rfl rfl)
theorem dX0_lambda_subtract_8_8 : decode cX0_lambda_subtract_8 8 = .ok (.aload_n 0, 1) := dk_42 (dk_at dksX0_lambda_subtract_8_0 8 rfl rfl)
theorem dX0_lambda_subtract_8_9 : decode cX0_lambda_subtract_8 9 = .ok (.getfield 217, 3) := dk_180 0 217 (dk_at dksX0_lambda_subtract_8_0 9 rfl rfl)
theorem dX0_lambda_subtract_8_12 : decode cX0_lambda_subtract_8 12 = .ok (.iload_n 2, 1) := dk_28 (dk_at dksX0_lambda_subtract_8_0 12 rfl rfl)
theorem dX0_lambda_subtract_8_13 : decode cX0_lambda_subtract_8 13 = .ok (.aaload, 1) := dk_50 (dk_at dksX0_lambda_subtract_8_0 13 rfl rfl)
theorem dX0_lambda_subtract_8_14 : decode cX0_lambda_subtract_8 14 = .ok (.invokevirtual 143, 3) := dk_182 0 143 (dk_at dksX0_lambda_subtract_8_0 14 rfl rfl)
theorem dX0_lambda_subtract_8_17 : decode cX0_lambda_subtract_8 17 = .ok (.invokevirtual 139, 3) := dk_182 0 139 (dk_at dksX0_lambda_subtract_8_0 17 rfl rfl)
theorem dX0_lambda_subtract_8_20 : decode cX0_lambda_subtract_8 20 = .ok (.areturn, 1) := dk_176 (dk_at dksX0_lambda_subtract_8_0 20 rfl rfl)
abbrev cX0_ordinalSum : ByteArray := prog_1_method_44_code
def yX0_ordinalSum : MethodName := ⟨RX0, "ordinalSum", "(III)I"⟩
def dkwX0_ordinalSum_0 : List UInt8 := [42, 27, 28, 184, 1, 98, 29, 42, 27, 28, 186, 1, 104, 0, 0, 182, 1, 24, 172]
abbrev dktX0_ordinalSum_0 : List UInt8 := dkwX0_ordinalSum_0 ++ []
theorem dksX0_ordinalSum_0 : cX0_ordinalSum.data.toList.drop 0 = dktX0_ordinalSum_0 := by decide +kernel
theorem dX0_ordinalSum_0 : decode cX0_ordinalSum 0 = .ok (.aload_n 0, 1) := dk_42 (dk_at dksX0_ordinalSum_0 0 rfl rfl)
theorem dX0_ordinalSum_1 : decode cX0_ordinalSum 1 = .ok (.iload_n 1, 1) := dk_27 (dk_at dksX0_ordinalSum_0 1 rfl rfl)
theorem dX0_ordinalSum_2 : decode cX0_ordinalSum 2 = .ok (.iload_n 2, 1) := dk_28 (dk_at dksX0_ordinalSum_0 2 rfl rfl)
theorem dX0_ordinalSum_3 : decode cX0_ordinalSum 3 = .ok (.invokestatic 354, 3) := dk_184 1 98 (dk_at dksX0_ordinalSum_0 3 rfl rfl)
theorem dX0_ordinalSum_6 : decode cX0_ordinalSum 6 = .ok (.iload_n 3, 1) := dk_29 (dk_at dksX0_ordinalSum_0 6 rfl rfl)
theorem dX0_ordinalSum_7 : decode cX0_ordinalSum 7 = .ok (.aload_n 0, 1) := dk_42 (dk_at dksX0_ordinalSum_0 7 rfl rfl)
theorem dX0_ordinalSum_8 : decode cX0_ordinalSum 8 = .ok (.iload_n 1, 1) := dk_27 (dk_at dksX0_ordinalSum_0 8 rfl rfl)
theorem dX0_ordinalSum_9 : decode cX0_ordinalSum 9 = .ok (.iload_n 2, 1) := dk_28 (dk_at dksX0_ordinalSum_0 9 rfl rfl)
theorem dX0_ordinalSum_10 : decode cX0_ordinalSum 10 = .ok (.invokedynamic 360, 5) := by decide +kernel
theorem dX0_ordinalSum_15 : decode cX0_ordinalSum 15 = .ok (.invokevirtual 280, 3) := dk_182 1 24 (dk_at dksX0_ordinalSum_0 15 rfl rfl)
theorem dX0_ordinalSum_18 : decode cX0_ordinalSum 18 = .ok (.ireturn, 1) := dk_172 (dk_at dksX0_ordinalSum_0 18 rfl rfl)
abbrev cX0_lambda_ordinalSum_9 : ByteArray := prog_1_method_76_code
def yX0_lambda_ordinalSum_9 : MethodName := ⟨RX0, "lambda$ordinalSum$9", "(II)LGameCalculator$Form;"⟩
def dkwX0_lambda_ordinalSum_9_0 : List UInt8 := [42, 42, 180, 0, 217, 27, 50, 42, 180, 0, 217, 28, 50, 182, 1, 215, 176]
abbrev dktX0_lambda_ordinalSum_9_0 : List UInt8 := dkwX0_lambda_ordinalSum_9_0 ++ []
theorem dksX0_lambda_ordinalSum_9_0 : cX0_lambda_ordinalSum_9.data.toList.drop 0 = dktX0_lambda_ordinalSum_9_0 := by decide +kernel
theorem dX0_lambda_ordinalSum_9_0 : decode cX0_lambda_ordinalSum_9 0 = .ok (.aload_n 0, 1) := dk_42 (dk_at dksX0_lambda_ordinalSum_9_0 0 rfl rfl)
theorem dX0_lambda_ordinalSum_9_1 : decode cX0_lambda_ordinalSum_9 1 = .ok (.aload_n 0, 1) := dk_42 (dk_at dksX0_lambda_ordinalSum_9_0 1 rfl rfl)
theorem dX0_lambda_ordinalSum_9_2 : decode cX0_lambda_ordinalSum_9 2 = .ok (.getfield 217, 3) := dk_180 0 217 (dk_at dksX0_lambda_ordinalSum_9_0 2 rfl rfl)
theorem dX0_lambda_ordinalSum_9_5 : decode cX0_lambda_ordinalSum_9 5 = .ok (.iload_n 1, 1) := dk_27 (dk_at dksX0_lambda_ordinalSum_9_0 5 rfl rfl)
theorem dX0_lambda_ordinalSum_9_6 : decode cX0_lambda_ordinalSum_9 6 = .ok (.aaload, 1) := dk_50 (dk_at dksX0_lambda_ordinalSum_9_0 6 rfl rfl)
theorem dX0_lambda_ordinalSum_9_7 : decode cX0_lambda_ordinalSum_9 7 = .ok (.aload_n 0, 1) := dk_42 (dk_at dksX0_lambda_ordinalSum_9_0 7 rfl rfl)
theorem dX0_lambda_ordinalSum_9_8 : decode cX0_lambda_ordinalSum_9 8 = .ok (.getfield 217, 3) := dk_180 0 217 (dk_at dksX0_lambda_ordinalSum_9_0 8 rfl rfl)
theorem dX0_lambda_ordinalSum_9_11 : decode cX0_lambda_ordinalSum_9 11 = .ok (.iload_n 2, 1) := dk_28 (dk_at dksX0_lambda_ordinalSum_9_0 11 rfl rfl)
theorem dX0_lambda_ordinalSum_9_12 : decode cX0_lambda_ordinalSum_9 12 = .ok (.aaload, 1) := dk_50 (dk_at dksX0_lambda_ordinalSum_9_0 12 rfl rfl)
theorem dX0_lambda_ordinalSum_9_13 : decode cX0_lambda_ordinalSum_9 13 = .ok (.invokevirtual 471, 3) := dk_182 1 215 (dk_at dksX0_lambda_ordinalSum_9_0 13 rfl rfl)
theorem dX0_lambda_ordinalSum_9_16 : decode cX0_lambda_ordinalSum_9 16 = .ok (.areturn, 1) := dk_176 (dk_at dksX0_lambda_ordinalSum_9_0 16 rfl rfl)
abbrev cX0_ordinalSum_2 : ByteArray := prog_1_method_5_code
def yX0_ordinalSum_2 : MethodName := ⟨RX0, "ordinalSum", "(LGameCalculator$Form;LGameCalculator$Form;)LGameCalculator$Form;"⟩
def dkwX0_ordinalSum_2_6 : List UInt8 := [180, 0, 15, 4, 100, 50, 182, 0, 42, 176]
abbrev dktX0_ordinalSum_2_6 : List UInt8 := dkwX0_ordinalSum_2_6 ++ []
def dkwX0_ordinalSum_2_5 : List UInt8 := [25, 5, 21, 6, 45, 25, 7, 25, 8, 182, 0, 38, 83, 132, 6, 1, 167, 255, 171, 45, 25, 5, 44]
abbrev dktX0_ordinalSum_2_5 : List UInt8 := dkwX0_ordinalSum_2_5 ++ dktX0_ordinalSum_2_6
def dkwX0_ordinalSum_2_4 : List UInt8 := [180, 0, 81, 21, 6, 46, 184, 0, 85, 25, 8, 25, 5, 44, 180, 0, 88, 21, 6, 46, 184, 0, 85]
abbrev dktX0_ordinalSum_2_4 : List UInt8 := dkwX0_ordinalSum_2_4 ++ dktX0_ordinalSum_2_5
def dkwX0_ordinalSum_2_3 : List UInt8 := [25, 4, 180, 0, 70, 184, 0, 74, 25, 8, 25, 4, 180, 0, 78, 184, 0, 74, 25, 7, 25, 5, 44]
abbrev dktX0_ordinalSum_2_3 : List UInt8 := dkwX0_ordinalSum_2_3 ++ dktX0_ordinalSum_2_4
def dkwX0_ordinalSum_2_2 : List UInt8 := [21, 6, 44, 180, 0, 15, 162, 0, 82, 45, 182, 0, 46, 58, 7, 45, 182, 0, 46, 58, 8, 25, 7]
abbrev dktX0_ordinalSum_2_2 : List UInt8 := dkwX0_ordinalSum_2_2 ++ dktX0_ordinalSum_2_3
def dkwX0_ordinalSum_2_1 : List UInt8 := [182, 0, 26, 78, 45, 43, 182, 0, 64, 58, 4, 44, 180, 0, 15, 189, 0, 68, 58, 5, 3, 54, 6]
abbrev dktX0_ordinalSum_2_1 : List UInt8 := dkwX0_ordinalSum_2_1 ++ dktX0_ordinalSum_2_2
def dkwX0_ordinalSum_2_0 : List UInt8 := [43, 180, 0, 15, 44, 180, 0, 15, 104, 17, 0, 200, 164, 0, 11, 187, 0, 21, 89, 183, 0, 23, 191, 42]
abbrev dktX0_ordinalSum_2_0 : List UInt8 := dkwX0_ordinalSum_2_0 ++ dktX0_ordinalSum_2_1
theorem dksX0_ordinalSum_2_0 : cX0_ordinalSum_2.data.toList.drop 0 = dktX0_ordinalSum_2_0 := by decide +kernel
theorem dksX0_ordinalSum_2_1 : cX0_ordinalSum_2.data.toList.drop 24 = dktX0_ordinalSum_2_1 := dk_seg dksX0_ordinalSum_2_0 24 rfl rfl
theorem dksX0_ordinalSum_2_2 : cX0_ordinalSum_2.data.toList.drop 47 = dktX0_ordinalSum_2_2 := dk_seg dksX0_ordinalSum_2_1 23 rfl rfl
theorem dksX0_ordinalSum_2_3 : cX0_ordinalSum_2.data.toList.drop 70 = dktX0_ordinalSum_2_3 := dk_seg dksX0_ordinalSum_2_2 23 rfl rfl
theorem dksX0_ordinalSum_2_4 : cX0_ordinalSum_2.data.toList.drop 93 = dktX0_ordinalSum_2_4 := dk_seg dksX0_ordinalSum_2_3 23 rfl rfl
theorem dksX0_ordinalSum_2_5 : cX0_ordinalSum_2.data.toList.drop 116 = dktX0_ordinalSum_2_5 := dk_seg dksX0_ordinalSum_2_4 23 rfl rfl
theorem dksX0_ordinalSum_2_6 : cX0_ordinalSum_2.data.toList.drop 139 = dktX0_ordinalSum_2_6 := dk_seg dksX0_ordinalSum_2_5 23 rfl rfl
theorem dX0_ordinalSum_2_0 : decode cX0_ordinalSum_2 0 = .ok (.aload_n 1, 1) := dk_43 (dk_at dksX0_ordinalSum_2_0 0 rfl rfl)
theorem dX0_ordinalSum_2_1 : decode cX0_ordinalSum_2 1 = .ok (.getfield 15, 3) := dk_180 0 15 (dk_at dksX0_ordinalSum_2_0 1 rfl rfl)
theorem dX0_ordinalSum_2_4 : decode cX0_ordinalSum_2 4 = .ok (.aload_n 2, 1) := dk_44 (dk_at dksX0_ordinalSum_2_0 4 rfl rfl)
theorem dX0_ordinalSum_2_5 : decode cX0_ordinalSum_2 5 = .ok (.getfield 15, 3) := dk_180 0 15 (dk_at dksX0_ordinalSum_2_0 5 rfl rfl)
theorem dX0_ordinalSum_2_8 : decode cX0_ordinalSum_2 8 = .ok (.imul, 1) := dk_104 (dk_at dksX0_ordinalSum_2_0 8 rfl rfl)
theorem dX0_ordinalSum_2_9 : decode cX0_ordinalSum_2 9 = .ok (.sipush 200, 3) := dk_17 0 200 (dk_at dksX0_ordinalSum_2_0 9 rfl rfl)
theorem dX0_ordinalSum_2_12 : decode cX0_ordinalSum_2 12 = .ok (.if_icmp .le 11, 3) := dk_164 0 11 (dk_at dksX0_ordinalSum_2_0 12 rfl rfl)
theorem dX0_ordinalSum_2_15 : decode cX0_ordinalSum_2 15 = .ok (.new 21, 3) := dk_187 0 21 (dk_at dksX0_ordinalSum_2_0 15 rfl rfl)
theorem dX0_ordinalSum_2_18 : decode cX0_ordinalSum_2 18 = .ok (.dup, 1) := dk_89 (dk_at dksX0_ordinalSum_2_0 18 rfl rfl)
theorem dX0_ordinalSum_2_19 : decode cX0_ordinalSum_2 19 = .ok (.invokespecial 23, 3) := dk_183 0 23 (dk_at dksX0_ordinalSum_2_0 19 rfl rfl)
theorem dX0_ordinalSum_2_22 : decode cX0_ordinalSum_2 22 = .ok (.athrow, 1) := dk_191 (dk_at dksX0_ordinalSum_2_0 22 rfl rfl)
theorem dX0_ordinalSum_2_23 : decode cX0_ordinalSum_2 23 = .ok (.aload_n 0, 1) := dk_42 (dk_at dksX0_ordinalSum_2_0 23 rfl rfl)
theorem dX0_ordinalSum_2_24 : decode cX0_ordinalSum_2 24 = .ok (.invokevirtual 26, 3) := dk_182 0 26 (dk_at dksX0_ordinalSum_2_1 0 rfl rfl)
theorem dX0_ordinalSum_2_27 : decode cX0_ordinalSum_2 27 = .ok (.astore_n 3, 1) := dk_78 (dk_at dksX0_ordinalSum_2_1 3 rfl rfl)
theorem dX0_ordinalSum_2_28 : decode cX0_ordinalSum_2 28 = .ok (.aload_n 3, 1) := dk_45 (dk_at dksX0_ordinalSum_2_1 4 rfl rfl)
theorem dX0_ordinalSum_2_29 : decode cX0_ordinalSum_2 29 = .ok (.aload_n 1, 1) := dk_43 (dk_at dksX0_ordinalSum_2_1 5 rfl rfl)
theorem dX0_ordinalSum_2_30 : decode cX0_ordinalSum_2 30 = .ok (.invokevirtual 64, 3) := dk_182 0 64 (dk_at dksX0_ordinalSum_2_1 6 rfl rfl)
theorem dX0_ordinalSum_2_33 : decode cX0_ordinalSum_2 33 = .ok (.astore 4, 2) := dk_58 4 (dk_at dksX0_ordinalSum_2_1 9 rfl rfl)
theorem dX0_ordinalSum_2_35 : decode cX0_ordinalSum_2 35 = .ok (.aload_n 2, 1) := dk_44 (dk_at dksX0_ordinalSum_2_1 11 rfl rfl)
theorem dX0_ordinalSum_2_36 : decode cX0_ordinalSum_2 36 = .ok (.getfield 15, 3) := dk_180 0 15 (dk_at dksX0_ordinalSum_2_1 12 rfl rfl)
theorem dX0_ordinalSum_2_39 : decode cX0_ordinalSum_2 39 = .ok (.anewarray 68, 3) := dk_189 0 68 (dk_at dksX0_ordinalSum_2_1 15 rfl rfl)
theorem dX0_ordinalSum_2_42 : decode cX0_ordinalSum_2 42 = .ok (.astore 5, 2) := dk_58 5 (dk_at dksX0_ordinalSum_2_1 18 rfl rfl)
theorem dX0_ordinalSum_2_44 : decode cX0_ordinalSum_2 44 = .ok (.iconst 0, 1) := dk_3 (dk_at dksX0_ordinalSum_2_1 20 rfl rfl)
theorem dX0_ordinalSum_2_45 : decode cX0_ordinalSum_2 45 = .ok (.istore 6, 2) := dk_54 6 (dk_at dksX0_ordinalSum_2_1 21 rfl rfl)
theorem dX0_ordinalSum_2_47 : decode cX0_ordinalSum_2 47 = .ok (.iload 6, 2) := dk_21 6 (dk_at dksX0_ordinalSum_2_2 0 rfl rfl)
theorem dX0_ordinalSum_2_49 : decode cX0_ordinalSum_2 49 = .ok (.aload_n 2, 1) := dk_44 (dk_at dksX0_ordinalSum_2_2 2 rfl rfl)
theorem dX0_ordinalSum_2_50 : decode cX0_ordinalSum_2 50 = .ok (.getfield 15, 3) := dk_180 0 15 (dk_at dksX0_ordinalSum_2_2 3 rfl rfl)
theorem dX0_ordinalSum_2_53 : decode cX0_ordinalSum_2 53 = .ok (.if_icmp .ge 82, 3) := dk_162 0 82 (dk_at dksX0_ordinalSum_2_2 6 rfl rfl)
theorem dX0_ordinalSum_2_56 : decode cX0_ordinalSum_2 56 = .ok (.aload_n 3, 1) := dk_45 (dk_at dksX0_ordinalSum_2_2 9 rfl rfl)
theorem dX0_ordinalSum_2_57 : decode cX0_ordinalSum_2 57 = .ok (.invokevirtual 46, 3) := dk_182 0 46 (dk_at dksX0_ordinalSum_2_2 10 rfl rfl)
theorem dX0_ordinalSum_2_60 : decode cX0_ordinalSum_2 60 = .ok (.astore 7, 2) := dk_58 7 (dk_at dksX0_ordinalSum_2_2 13 rfl rfl)
theorem dX0_ordinalSum_2_62 : decode cX0_ordinalSum_2 62 = .ok (.aload_n 3, 1) := dk_45 (dk_at dksX0_ordinalSum_2_2 15 rfl rfl)
theorem dX0_ordinalSum_2_63 : decode cX0_ordinalSum_2 63 = .ok (.invokevirtual 46, 3) := dk_182 0 46 (dk_at dksX0_ordinalSum_2_2 16 rfl rfl)
theorem dX0_ordinalSum_2_66 : decode cX0_ordinalSum_2 66 = .ok (.astore 8, 2) := dk_58 8 (dk_at dksX0_ordinalSum_2_2 19 rfl rfl)
theorem dX0_ordinalSum_2_68 : decode cX0_ordinalSum_2 68 = .ok (.aload 7, 2) := dk_25 7 (dk_at dksX0_ordinalSum_2_2 21 rfl rfl)
theorem dX0_ordinalSum_2_70 : decode cX0_ordinalSum_2 70 = .ok (.aload 4, 2) := dk_25 4 (dk_at dksX0_ordinalSum_2_3 0 rfl rfl)
theorem dX0_ordinalSum_2_72 : decode cX0_ordinalSum_2 72 = .ok (.getfield 70, 3) := dk_180 0 70 (dk_at dksX0_ordinalSum_2_3 2 rfl rfl)
theorem dX0_ordinalSum_2_75 : decode cX0_ordinalSum_2 75 = .ok (.invokestatic 74, 3) := dk_184 0 74 (dk_at dksX0_ordinalSum_2_3 5 rfl rfl)
theorem dX0_ordinalSum_2_78 : decode cX0_ordinalSum_2 78 = .ok (.aload 8, 2) := dk_25 8 (dk_at dksX0_ordinalSum_2_3 8 rfl rfl)
theorem dX0_ordinalSum_2_80 : decode cX0_ordinalSum_2 80 = .ok (.aload 4, 2) := dk_25 4 (dk_at dksX0_ordinalSum_2_3 10 rfl rfl)
theorem dX0_ordinalSum_2_82 : decode cX0_ordinalSum_2 82 = .ok (.getfield 78, 3) := dk_180 0 78 (dk_at dksX0_ordinalSum_2_3 12 rfl rfl)
theorem dX0_ordinalSum_2_85 : decode cX0_ordinalSum_2 85 = .ok (.invokestatic 74, 3) := dk_184 0 74 (dk_at dksX0_ordinalSum_2_3 15 rfl rfl)
theorem dX0_ordinalSum_2_88 : decode cX0_ordinalSum_2 88 = .ok (.aload 7, 2) := dk_25 7 (dk_at dksX0_ordinalSum_2_3 18 rfl rfl)
theorem dX0_ordinalSum_2_90 : decode cX0_ordinalSum_2 90 = .ok (.aload 5, 2) := dk_25 5 (dk_at dksX0_ordinalSum_2_3 20 rfl rfl)
theorem dX0_ordinalSum_2_92 : decode cX0_ordinalSum_2 92 = .ok (.aload_n 2, 1) := dk_44 (dk_at dksX0_ordinalSum_2_3 22 rfl rfl)
theorem dX0_ordinalSum_2_93 : decode cX0_ordinalSum_2 93 = .ok (.getfield 81, 3) := dk_180 0 81 (dk_at dksX0_ordinalSum_2_4 0 rfl rfl)
theorem dX0_ordinalSum_2_96 : decode cX0_ordinalSum_2 96 = .ok (.iload 6, 2) := dk_21 6 (dk_at dksX0_ordinalSum_2_4 3 rfl rfl)
theorem dX0_ordinalSum_2_98 : decode cX0_ordinalSum_2 98 = .ok (.iaload, 1) := dk_46 (dk_at dksX0_ordinalSum_2_4 5 rfl rfl)
theorem dX0_ordinalSum_2_99 : decode cX0_ordinalSum_2 99 = .ok (.invokestatic 85, 3) := dk_184 0 85 (dk_at dksX0_ordinalSum_2_4 6 rfl rfl)
theorem dX0_ordinalSum_2_102 : decode cX0_ordinalSum_2 102 = .ok (.aload 8, 2) := dk_25 8 (dk_at dksX0_ordinalSum_2_4 9 rfl rfl)
theorem dX0_ordinalSum_2_104 : decode cX0_ordinalSum_2 104 = .ok (.aload 5, 2) := dk_25 5 (dk_at dksX0_ordinalSum_2_4 11 rfl rfl)
theorem dX0_ordinalSum_2_106 : decode cX0_ordinalSum_2 106 = .ok (.aload_n 2, 1) := dk_44 (dk_at dksX0_ordinalSum_2_4 13 rfl rfl)
theorem dX0_ordinalSum_2_107 : decode cX0_ordinalSum_2 107 = .ok (.getfield 88, 3) := dk_180 0 88 (dk_at dksX0_ordinalSum_2_4 14 rfl rfl)
theorem dX0_ordinalSum_2_110 : decode cX0_ordinalSum_2 110 = .ok (.iload 6, 2) := dk_21 6 (dk_at dksX0_ordinalSum_2_4 17 rfl rfl)
theorem dX0_ordinalSum_2_112 : decode cX0_ordinalSum_2 112 = .ok (.iaload, 1) := dk_46 (dk_at dksX0_ordinalSum_2_4 19 rfl rfl)
theorem dX0_ordinalSum_2_113 : decode cX0_ordinalSum_2 113 = .ok (.invokestatic 85, 3) := dk_184 0 85 (dk_at dksX0_ordinalSum_2_4 20 rfl rfl)
theorem dX0_ordinalSum_2_116 : decode cX0_ordinalSum_2 116 = .ok (.aload 5, 2) := dk_25 5 (dk_at dksX0_ordinalSum_2_5 0 rfl rfl)
theorem dX0_ordinalSum_2_118 : decode cX0_ordinalSum_2 118 = .ok (.iload 6, 2) := dk_21 6 (dk_at dksX0_ordinalSum_2_5 2 rfl rfl)
theorem dX0_ordinalSum_2_120 : decode cX0_ordinalSum_2 120 = .ok (.aload_n 3, 1) := dk_45 (dk_at dksX0_ordinalSum_2_5 4 rfl rfl)
theorem dX0_ordinalSum_2_121 : decode cX0_ordinalSum_2 121 = .ok (.aload 7, 2) := dk_25 7 (dk_at dksX0_ordinalSum_2_5 5 rfl rfl)
theorem dX0_ordinalSum_2_123 : decode cX0_ordinalSum_2 123 = .ok (.aload 8, 2) := dk_25 8 (dk_at dksX0_ordinalSum_2_5 7 rfl rfl)
theorem dX0_ordinalSum_2_125 : decode cX0_ordinalSum_2 125 = .ok (.invokevirtual 38, 3) := dk_182 0 38 (dk_at dksX0_ordinalSum_2_5 9 rfl rfl)
theorem dX0_ordinalSum_2_128 : decode cX0_ordinalSum_2 128 = .ok (.aastore, 1) := dk_83 (dk_at dksX0_ordinalSum_2_5 12 rfl rfl)
theorem dX0_ordinalSum_2_129 : decode cX0_ordinalSum_2 129 = .ok (.iinc 6 1, 3) := dk_132 6 1 (dk_at dksX0_ordinalSum_2_5 13 rfl rfl)
theorem dX0_ordinalSum_2_132 : decode cX0_ordinalSum_2 132 = .ok (.goto (-85), 3) := dk_167 255 171 (dk_at dksX0_ordinalSum_2_5 16 rfl rfl)
theorem dX0_ordinalSum_2_135 : decode cX0_ordinalSum_2 135 = .ok (.aload_n 3, 1) := dk_45 (dk_at dksX0_ordinalSum_2_5 19 rfl rfl)
theorem dX0_ordinalSum_2_136 : decode cX0_ordinalSum_2 136 = .ok (.aload 5, 2) := dk_25 5 (dk_at dksX0_ordinalSum_2_5 20 rfl rfl)
theorem dX0_ordinalSum_2_138 : decode cX0_ordinalSum_2 138 = .ok (.aload_n 2, 1) := dk_44 (dk_at dksX0_ordinalSum_2_5 22 rfl rfl)
theorem dX0_ordinalSum_2_139 : decode cX0_ordinalSum_2 139 = .ok (.getfield 15, 3) := dk_180 0 15 (dk_at dksX0_ordinalSum_2_6 0 rfl rfl)
theorem dX0_ordinalSum_2_142 : decode cX0_ordinalSum_2 142 = .ok (.iconst 1, 1) := dk_4 (dk_at dksX0_ordinalSum_2_6 3 rfl rfl)
theorem dX0_ordinalSum_2_143 : decode cX0_ordinalSum_2 143 = .ok (.isub, 1) := dk_100 (dk_at dksX0_ordinalSum_2_6 4 rfl rfl)
theorem dX0_ordinalSum_2_144 : decode cX0_ordinalSum_2 144 = .ok (.aaload, 1) := dk_50 (dk_at dksX0_ordinalSum_2_6 5 rfl rfl)
theorem dX0_ordinalSum_2_145 : decode cX0_ordinalSum_2 145 = .ok (.invokevirtual 42, 3) := dk_182 0 42 (dk_at dksX0_ordinalSum_2_6 6 rfl rfl)
theorem dX0_ordinalSum_2_148 : decode cX0_ordinalSum_2 148 = .ok (.areturn, 1) := dk_176 (dk_at dksX0_ordinalSum_2_6 9 rfl rfl)
abbrev cX0_addAll : ByteArray := prog_1_method_6_code
def yX0_addAll : MethodName := ⟨RX0, "addAll", "(Ljava/util/List;Ljava/util/List;)V"⟩
def dkwX0_addAll_1 : List UInt8 := [184, 0, 60, 132, 2, 1, 167, 255, 229, 177]
abbrev dktX0_addAll_1 : List UInt8 := dkwX0_addAll_1 ++ []
def dkwX0_addAll_0 : List UInt8 := [3, 61, 28, 43, 185, 0, 91, 1, 0, 162, 0, 23, 42, 43, 28, 185, 0, 97, 2, 0, 192, 0, 68]
abbrev dktX0_addAll_0 : List UInt8 := dkwX0_addAll_0 ++ dktX0_addAll_1
theorem dksX0_addAll_0 : cX0_addAll.data.toList.drop 0 = dktX0_addAll_0 := by decide +kernel
theorem dksX0_addAll_1 : cX0_addAll.data.toList.drop 23 = dktX0_addAll_1 := dk_seg dksX0_addAll_0 23 rfl rfl
theorem dX0_addAll_0 : decode cX0_addAll 0 = .ok (.iconst 0, 1) := dk_3 (dk_at dksX0_addAll_0 0 rfl rfl)
theorem dX0_addAll_1 : decode cX0_addAll 1 = .ok (.istore_n 2, 1) := dk_61 (dk_at dksX0_addAll_0 1 rfl rfl)
theorem dX0_addAll_2 : decode cX0_addAll 2 = .ok (.iload_n 2, 1) := dk_28 (dk_at dksX0_addAll_0 2 rfl rfl)
theorem dX0_addAll_3 : decode cX0_addAll 3 = .ok (.aload_n 1, 1) := dk_43 (dk_at dksX0_addAll_0 3 rfl rfl)
theorem dX0_addAll_4 : decode cX0_addAll 4 = .ok (.invokeinterface 91 1, 5) := by decide +kernel
theorem dX0_addAll_9 : decode cX0_addAll 9 = .ok (.if_icmp .ge 23, 3) := dk_162 0 23 (dk_at dksX0_addAll_0 9 rfl rfl)
theorem dX0_addAll_12 : decode cX0_addAll 12 = .ok (.aload_n 0, 1) := dk_42 (dk_at dksX0_addAll_0 12 rfl rfl)
theorem dX0_addAll_13 : decode cX0_addAll 13 = .ok (.aload_n 1, 1) := dk_43 (dk_at dksX0_addAll_0 13 rfl rfl)
theorem dX0_addAll_14 : decode cX0_addAll 14 = .ok (.iload_n 2, 1) := dk_28 (dk_at dksX0_addAll_0 14 rfl rfl)
theorem dX0_addAll_15 : decode cX0_addAll 15 = .ok (.invokeinterface 97 2, 5) := by decide +kernel
theorem dX0_addAll_20 : decode cX0_addAll 20 = .ok (.checkcast 68, 3) := dk_192 0 68 (dk_at dksX0_addAll_0 20 rfl rfl)
theorem dX0_addAll_23 : decode cX0_addAll 23 = .ok (.invokestatic 60, 3) := dk_184 0 60 (dk_at dksX0_addAll_1 0 rfl rfl)
theorem dX0_addAll_26 : decode cX0_addAll 26 = .ok (.iinc 2 1, 3) := dk_132 2 1 (dk_at dksX0_addAll_1 3 rfl rfl)
theorem dX0_addAll_29 : decode cX0_addAll 29 = .ok (.goto (-27), 3) := dk_167 255 229 (dk_at dksX0_addAll_1 6 rfl rfl)
theorem dX0_addAll_32 : decode cX0_addAll 32 = .ok (.return_, 1) := dk_177 (dk_at dksX0_addAll_1 9 rfl rfl)
abbrev cX0_addAll_2 : ByteArray := prog_1_method_7_code
def yX0_addAll_2 : MethodName := ⟨RX0, "addAll", "(Ljava/util/List;[LGameCalculator$Game;I)V"⟩
def dkwX0_addAll_2_1 : List UInt8 := [167, 255, 236, 177]
abbrev dktX0_addAll_2_1 : List UInt8 := dkwX0_addAll_2_1 ++ []
def dkwX0_addAll_2_0 : List UInt8 := [28, 62, 29, 153, 0, 22, 42, 43, 29, 184, 0, 54, 50, 184, 0, 60, 29, 29, 4, 100, 126, 62]
abbrev dktX0_addAll_2_0 : List UInt8 := dkwX0_addAll_2_0 ++ dktX0_addAll_2_1
theorem dksX0_addAll_2_0 : cX0_addAll_2.data.toList.drop 0 = dktX0_addAll_2_0 := by decide +kernel
theorem dksX0_addAll_2_1 : cX0_addAll_2.data.toList.drop 22 = dktX0_addAll_2_1 := dk_seg dksX0_addAll_2_0 22 rfl rfl
theorem dX0_addAll_2_0 : decode cX0_addAll_2 0 = .ok (.iload_n 2, 1) := dk_28 (dk_at dksX0_addAll_2_0 0 rfl rfl)
theorem dX0_addAll_2_1 : decode cX0_addAll_2 1 = .ok (.istore_n 3, 1) := dk_62 (dk_at dksX0_addAll_2_0 1 rfl rfl)
theorem dX0_addAll_2_2 : decode cX0_addAll_2 2 = .ok (.iload_n 3, 1) := dk_29 (dk_at dksX0_addAll_2_0 2 rfl rfl)
theorem dX0_addAll_2_3 : decode cX0_addAll_2 3 = .ok (.ifCond .eq 22, 3) := dk_153 0 22 (dk_at dksX0_addAll_2_0 3 rfl rfl)
theorem dX0_addAll_2_6 : decode cX0_addAll_2 6 = .ok (.aload_n 0, 1) := dk_42 (dk_at dksX0_addAll_2_0 6 rfl rfl)
theorem dX0_addAll_2_7 : decode cX0_addAll_2 7 = .ok (.aload_n 1, 1) := dk_43 (dk_at dksX0_addAll_2_0 7 rfl rfl)
theorem dX0_addAll_2_8 : decode cX0_addAll_2 8 = .ok (.iload_n 3, 1) := dk_29 (dk_at dksX0_addAll_2_0 8 rfl rfl)
theorem dX0_addAll_2_9 : decode cX0_addAll_2 9 = .ok (.invokestatic 54, 3) := dk_184 0 54 (dk_at dksX0_addAll_2_0 9 rfl rfl)
theorem dX0_addAll_2_12 : decode cX0_addAll_2 12 = .ok (.aaload, 1) := dk_50 (dk_at dksX0_addAll_2_0 12 rfl rfl)
theorem dX0_addAll_2_13 : decode cX0_addAll_2 13 = .ok (.invokestatic 60, 3) := dk_184 0 60 (dk_at dksX0_addAll_2_0 13 rfl rfl)
theorem dX0_addAll_2_16 : decode cX0_addAll_2 16 = .ok (.iload_n 3, 1) := dk_29 (dk_at dksX0_addAll_2_0 16 rfl rfl)
theorem dX0_addAll_2_17 : decode cX0_addAll_2 17 = .ok (.iload_n 3, 1) := dk_29 (dk_at dksX0_addAll_2_0 17 rfl rfl)
theorem dX0_addAll_2_18 : decode cX0_addAll_2 18 = .ok (.iconst 1, 1) := dk_4 (dk_at dksX0_addAll_2_0 18 rfl rfl)
theorem dX0_addAll_2_19 : decode cX0_addAll_2 19 = .ok (.isub, 1) := dk_100 (dk_at dksX0_addAll_2_0 19 rfl rfl)
theorem dX0_addAll_2_20 : decode cX0_addAll_2 20 = .ok (.iand, 1) := dk_126 (dk_at dksX0_addAll_2_0 20 rfl rfl)
theorem dX0_addAll_2_21 : decode cX0_addAll_2 21 = .ok (.istore_n 3, 1) := dk_62 (dk_at dksX0_addAll_2_0 21 rfl rfl)
theorem dX0_addAll_2_22 : decode cX0_addAll_2 22 = .ok (.goto (-20), 3) := dk_167 255 236 (dk_at dksX0_addAll_2_1 0 rfl rfl)
theorem dX0_addAll_2_25 : decode cX0_addAll_2 25 = .ok (.return_, 1) := dk_177 (dk_at dksX0_addAll_2_1 3 rfl rfl)
abbrev cX0_multiply : ByteArray := prog_1_method_46_code
def yX0_multiply : MethodName := ⟨RX0, "multiply", "(III)I"⟩
def dkwX0_multiply_3 : List UInt8 := [22, 6, 186, 1, 111, 0, 0, 182, 1, 24, 184, 1, 28, 172]
abbrev dktX0_multiply_3 : List UInt8 := dkwX0_multiply_3 ++ []
def dkwX0_multiply_2 : List UInt8 := [153, 0, 12, 22, 6, 20, 0, 187, 148, 154, 0, 9, 19, 1, 110, 167, 0, 22, 42, 4, 29, 42, 22, 4]
abbrev dktX0_multiply_2 : List UInt8 := dkwX0_multiply_2 ++ dktX0_multiply_3
def dkwX0_multiply_1 : List UInt8 := [50, 184, 0, 200, 55, 4, 42, 180, 0, 217, 28, 50, 184, 0, 200, 55, 6, 22, 4, 20, 0, 187, 148]
abbrev dktX0_multiply_1 : List UInt8 := dkwX0_multiply_1 ++ dktX0_multiply_2
def dkwX0_multiply_0 : List UInt8 := [27, 28, 184, 1, 98, 153, 0, 10, 29, 184, 0, 254, 154, 0, 7, 19, 1, 1, 172, 42, 180, 0, 217, 27]
abbrev dktX0_multiply_0 : List UInt8 := dkwX0_multiply_0 ++ dktX0_multiply_1
theorem dksX0_multiply_0 : cX0_multiply.data.toList.drop 0 = dktX0_multiply_0 := by decide +kernel
theorem dksX0_multiply_1 : cX0_multiply.data.toList.drop 24 = dktX0_multiply_1 := dk_seg dksX0_multiply_0 24 rfl rfl
theorem dksX0_multiply_2 : cX0_multiply.data.toList.drop 47 = dktX0_multiply_2 := dk_seg dksX0_multiply_1 23 rfl rfl
theorem dksX0_multiply_3 : cX0_multiply.data.toList.drop 71 = dktX0_multiply_3 := dk_seg dksX0_multiply_2 24 rfl rfl
theorem dX0_multiply_0 : decode cX0_multiply 0 = .ok (.iload_n 1, 1) := dk_27 (dk_at dksX0_multiply_0 0 rfl rfl)
theorem dX0_multiply_1 : decode cX0_multiply 1 = .ok (.iload_n 2, 1) := dk_28 (dk_at dksX0_multiply_0 1 rfl rfl)
theorem dX0_multiply_2 : decode cX0_multiply 2 = .ok (.invokestatic 354, 3) := dk_184 1 98 (dk_at dksX0_multiply_0 2 rfl rfl)
theorem dX0_multiply_5 : decode cX0_multiply 5 = .ok (.ifCond .eq 10, 3) := dk_153 0 10 (dk_at dksX0_multiply_0 5 rfl rfl)
theorem dX0_multiply_8 : decode cX0_multiply 8 = .ok (.iload_n 3, 1) := dk_29 (dk_at dksX0_multiply_0 8 rfl rfl)
theorem dX0_multiply_9 : decode cX0_multiply 9 = .ok (.invokestatic 254, 3) := dk_184 0 254 (dk_at dksX0_multiply_0 9 rfl rfl)
theorem dX0_multiply_12 : decode cX0_multiply 12 = .ok (.ifCond .ne 7, 3) := dk_154 0 7 (dk_at dksX0_multiply_0 12 rfl rfl)
theorem dX0_multiply_15 : decode cX0_multiply 15 = .ok (.ldc_w 257, 3) := dk_19 1 1 (dk_at dksX0_multiply_0 15 rfl rfl)
theorem dX0_multiply_18 : decode cX0_multiply 18 = .ok (.ireturn, 1) := dk_172 (dk_at dksX0_multiply_0 18 rfl rfl)
theorem dX0_multiply_19 : decode cX0_multiply 19 = .ok (.aload_n 0, 1) := dk_42 (dk_at dksX0_multiply_0 19 rfl rfl)
theorem dX0_multiply_20 : decode cX0_multiply 20 = .ok (.getfield 217, 3) := dk_180 0 217 (dk_at dksX0_multiply_0 20 rfl rfl)
theorem dX0_multiply_23 : decode cX0_multiply 23 = .ok (.iload_n 1, 1) := dk_27 (dk_at dksX0_multiply_0 23 rfl rfl)
theorem dX0_multiply_24 : decode cX0_multiply 24 = .ok (.aaload, 1) := dk_50 (dk_at dksX0_multiply_1 0 rfl rfl)
theorem dX0_multiply_25 : decode cX0_multiply 25 = .ok (.invokestatic 200, 3) := dk_184 0 200 (dk_at dksX0_multiply_1 1 rfl rfl)
theorem dX0_multiply_28 : decode cX0_multiply 28 = .ok (.lstore 4, 2) := dk_55 4 (dk_at dksX0_multiply_1 4 rfl rfl)
theorem dX0_multiply_30 : decode cX0_multiply 30 = .ok (.aload_n 0, 1) := dk_42 (dk_at dksX0_multiply_1 6 rfl rfl)
theorem dX0_multiply_31 : decode cX0_multiply 31 = .ok (.getfield 217, 3) := dk_180 0 217 (dk_at dksX0_multiply_1 7 rfl rfl)
theorem dX0_multiply_34 : decode cX0_multiply 34 = .ok (.iload_n 2, 1) := dk_28 (dk_at dksX0_multiply_1 10 rfl rfl)
theorem dX0_multiply_35 : decode cX0_multiply 35 = .ok (.aaload, 1) := dk_50 (dk_at dksX0_multiply_1 11 rfl rfl)
theorem dX0_multiply_36 : decode cX0_multiply 36 = .ok (.invokestatic 200, 3) := dk_184 0 200 (dk_at dksX0_multiply_1 12 rfl rfl)
theorem dX0_multiply_39 : decode cX0_multiply 39 = .ok (.lstore 6, 2) := dk_55 6 (dk_at dksX0_multiply_1 15 rfl rfl)
theorem dX0_multiply_41 : decode cX0_multiply 41 = .ok (.lload 4, 2) := dk_22 4 (dk_at dksX0_multiply_1 17 rfl rfl)
theorem dX0_multiply_43 : decode cX0_multiply 43 = .ok (.ldc2_w 187, 3) := dk_20 0 187 (dk_at dksX0_multiply_1 19 rfl rfl)
theorem dX0_multiply_46 : decode cX0_multiply 46 = .ok (.lcmp, 1) := dk_148 (dk_at dksX0_multiply_1 22 rfl rfl)
theorem dX0_multiply_47 : decode cX0_multiply 47 = .ok (.ifCond .eq 12, 3) := dk_153 0 12 (dk_at dksX0_multiply_2 0 rfl rfl)
theorem dX0_multiply_50 : decode cX0_multiply 50 = .ok (.lload 6, 2) := dk_22 6 (dk_at dksX0_multiply_2 3 rfl rfl)
theorem dX0_multiply_52 : decode cX0_multiply 52 = .ok (.ldc2_w 187, 3) := dk_20 0 187 (dk_at dksX0_multiply_2 5 rfl rfl)
theorem dX0_multiply_55 : decode cX0_multiply 55 = .ok (.lcmp, 1) := dk_148 (dk_at dksX0_multiply_2 8 rfl rfl)
theorem dX0_multiply_56 : decode cX0_multiply 56 = .ok (.ifCond .ne 9, 3) := dk_154 0 9 (dk_at dksX0_multiply_2 9 rfl rfl)
theorem dX0_multiply_59 : decode cX0_multiply 59 = .ok (.ldc_w 366, 3) := dk_19 1 110 (dk_at dksX0_multiply_2 12 rfl rfl)
theorem dX0_multiply_62 : decode cX0_multiply 62 = .ok (.goto 22, 3) := dk_167 0 22 (dk_at dksX0_multiply_2 15 rfl rfl)
theorem dX0_multiply_65 : decode cX0_multiply 65 = .ok (.aload_n 0, 1) := dk_42 (dk_at dksX0_multiply_2 18 rfl rfl)
theorem dX0_multiply_66 : decode cX0_multiply 66 = .ok (.iconst 1, 1) := dk_4 (dk_at dksX0_multiply_2 19 rfl rfl)
theorem dX0_multiply_67 : decode cX0_multiply 67 = .ok (.iload_n 3, 1) := dk_29 (dk_at dksX0_multiply_2 20 rfl rfl)
theorem dX0_multiply_68 : decode cX0_multiply 68 = .ok (.aload_n 0, 1) := dk_42 (dk_at dksX0_multiply_2 21 rfl rfl)
theorem dX0_multiply_69 : decode cX0_multiply 69 = .ok (.lload 4, 2) := dk_22 4 (dk_at dksX0_multiply_2 22 rfl rfl)
theorem dX0_multiply_71 : decode cX0_multiply 71 = .ok (.lload 6, 2) := dk_22 6 (dk_at dksX0_multiply_3 0 rfl rfl)
theorem dX0_multiply_73 : decode cX0_multiply 73 = .ok (.invokedynamic 367, 5) := by decide +kernel
theorem dX0_multiply_78 : decode cX0_multiply 78 = .ok (.invokevirtual 280, 3) := dk_182 1 24 (dk_at dksX0_multiply_3 7 rfl rfl)
theorem dX0_multiply_81 : decode cX0_multiply 81 = .ok (.invokestatic 284, 3) := dk_184 1 28 (dk_at dksX0_multiply_3 10 rfl rfl)
theorem dX0_multiply_84 : decode cX0_multiply 84 = .ok (.ireturn, 1) := dk_172 (dk_at dksX0_multiply_3 13 rfl rfl)
abbrev cX0_valueOf : ByteArray := prog_1_method_18_code
def yX0_valueOf : MethodName := ⟨RX0, "valueOf", "(LGameCalculator$Form;)J"⟩
def dkwX0_valueOf_0 : List UInt8 := [42, 184, 0, 196, 42, 180, 0, 15, 4, 100, 47, 173]
abbrev dktX0_valueOf_0 : List UInt8 := dkwX0_valueOf_0 ++ []
theorem dksX0_valueOf_0 : cX0_valueOf.data.toList.drop 0 = dktX0_valueOf_0 := by decide +kernel
theorem dX0_valueOf_0 : decode cX0_valueOf 0 = .ok (.aload_n 0, 1) := dk_42 (dk_at dksX0_valueOf_0 0 rfl rfl)
theorem dX0_valueOf_1 : decode cX0_valueOf 1 = .ok (.invokestatic 196, 3) := dk_184 0 196 (dk_at dksX0_valueOf_0 1 rfl rfl)
theorem dX0_valueOf_4 : decode cX0_valueOf 4 = .ok (.aload_n 0, 1) := dk_42 (dk_at dksX0_valueOf_0 4 rfl rfl)
theorem dX0_valueOf_5 : decode cX0_valueOf 5 = .ok (.getfield 15, 3) := dk_180 0 15 (dk_at dksX0_valueOf_0 5 rfl rfl)
theorem dX0_valueOf_8 : decode cX0_valueOf 8 = .ok (.iconst 1, 1) := dk_4 (dk_at dksX0_valueOf_0 8 rfl rfl)
theorem dX0_valueOf_9 : decode cX0_valueOf 9 = .ok (.isub, 1) := dk_100 (dk_at dksX0_valueOf_0 9 rfl rfl)
theorem dX0_valueOf_10 : decode cX0_valueOf 10 = .ok (.laload, 1) := dk_47 (dk_at dksX0_valueOf_0 10 rfl rfl)
theorem dX0_valueOf_11 : decode cX0_valueOf 11 = .ok (.lreturn, 1) := dk_173 (dk_at dksX0_valueOf_0 11 rfl rfl)
abbrev cX0_values : ByteArray := prog_1_method_17_code
def yX0_values : MethodName := ⟨RX0, "values", "(LGameCalculator$Form;)[J"⟩
def dkwX0_values_13 : List UInt8 := [180, 0, 163, 167, 0, 6, 20, 0, 187, 80, 132, 2, 1, 167, 254, 205, 43, 176]
abbrev dktX0_values_13 : List UInt8 := dkwX0_values_13 ++ []
def dkwX0_values_12 : List UInt8 := [157, 0, 7, 4, 167, 0, 4, 3, 182, 0, 175, 167, 255, 194, 43, 28, 29, 153, 0, 11, 25, 4]
abbrev dktX0_values_12 : List UInt8 := dkwX0_values_12 ++ dktX0_values_13
def dkwX0_values_11 : List UInt8 := [180, 0, 163, 22, 7, 148, 155, 0, 32, 25, 4, 21, 9, 153, 0, 18, 25, 4, 180, 0, 163, 22, 5, 148]
abbrev dktX0_values_11 : List UInt8 := dkwX0_values_11 ++ dktX0_values_12
def dkwX0_values_10 : List UInt8 := [21, 9, 153, 0, 14, 25, 4, 180, 0, 163, 22, 5, 148, 158, 0, 19, 21, 10, 153, 0, 43, 25, 4]
abbrev dktX0_values_10 : List UInt8 := dkwX0_values_10 ++ dktX0_values_11
def dkwX0_values_9 : List UInt8 := [21, 10, 153, 0, 11, 22, 5, 22, 7, 148, 156, 0, 7, 4, 167, 0, 4, 3, 126, 62, 29, 153, 0, 64]
abbrev dktX0_values_9 : List UInt8 := dkwX0_values_9 ++ dktX0_values_10
def dkwX0_values_8 : List UInt8 := [54, 9, 42, 180, 0, 88, 28, 46, 153, 0, 7, 4, 167, 0, 4, 3, 54, 10, 29, 21, 9, 153, 0, 16]
abbrev dktX0_values_8 : List UInt8 := dkwX0_values_8 ++ dktX0_values_9
def dkwX0_values_7 : List UInt8 := [21, 9, 4, 100, 126, 54, 9, 167, 255, 193, 42, 180, 0, 81, 28, 46, 153, 0, 7, 4, 167, 0, 4, 3]
abbrev dktX0_values_7 : List UInt8 := dkwX0_values_7 ++ dktX0_values_8
def dkwX0_values_6 : List UInt8 := [20, 0, 187, 148, 154, 0, 8, 22, 10, 167, 0, 10, 22, 7, 22, 10, 184, 0, 193, 55, 7, 21, 9]
abbrev dktX0_values_6 : List UInt8 := dkwX0_values_6 ++ dktX0_values_7
def dkwX0_values_5 : List UInt8 := [47, 55, 10, 29, 22, 10, 20, 0, 187, 148, 153, 0, 7, 4, 167, 0, 4, 3, 126, 62, 22, 7]
abbrev dktX0_values_5 : List UInt8 := dkwX0_values_5 ++ dktX0_values_6
def dkwX0_values_4 : List UInt8 := [54, 9, 167, 255, 207, 42, 180, 0, 88, 28, 46, 54, 9, 21, 9, 153, 0, 64, 43, 21, 9, 184, 0, 54]
abbrev dktX0_values_4 : List UInt8 := dkwX0_values_4 ++ dktX0_values_5
def dkwX0_values_3 : List UInt8 := [4, 167, 0, 4, 3, 126, 62, 22, 5, 22, 10, 184, 0, 189, 55, 5, 21, 9, 21, 9, 4, 100, 126]
abbrev dktX0_values_3 : List UInt8 := dkwX0_values_3 ++ dktX0_values_4
def dkwX0_values_2 : List UInt8 := [21, 9, 153, 0, 50, 43, 21, 9, 184, 0, 54, 47, 55, 10, 29, 22, 10, 20, 0, 187, 148, 153, 0, 7]
abbrev dktX0_values_2 : List UInt8 := dkwX0_values_2 ++ dktX0_values_3
def dkwX0_values_1 : List UInt8 := [183, 0, 162, 58, 4, 20, 0, 187, 55, 5, 20, 0, 187, 55, 7, 42, 180, 0, 81, 28, 46, 54, 9]
abbrev dktX0_values_1 : List UInt8 := dkwX0_values_1 ++ dktX0_values_2
def dkwX0_values_0 : List UInt8 := [42, 180, 0, 15, 188, 11, 76, 3, 61, 28, 42, 180, 0, 15, 162, 1, 49, 4, 62, 187, 0, 160, 89]
abbrev dktX0_values_0 : List UInt8 := dkwX0_values_0 ++ dktX0_values_1
theorem dksX0_values_0 : cX0_values.data.toList.drop 0 = dktX0_values_0 := by decide +kernel
theorem dksX0_values_1 : cX0_values.data.toList.drop 23 = dktX0_values_1 := dk_seg dksX0_values_0 23 rfl rfl
theorem dksX0_values_2 : cX0_values.data.toList.drop 46 = dktX0_values_2 := dk_seg dksX0_values_1 23 rfl rfl
theorem dksX0_values_3 : cX0_values.data.toList.drop 70 = dktX0_values_3 := dk_seg dksX0_values_2 24 rfl rfl
theorem dksX0_values_4 : cX0_values.data.toList.drop 93 = dktX0_values_4 := dk_seg dksX0_values_3 23 rfl rfl
theorem dksX0_values_5 : cX0_values.data.toList.drop 117 = dktX0_values_5 := dk_seg dksX0_values_4 24 rfl rfl
theorem dksX0_values_6 : cX0_values.data.toList.drop 139 = dktX0_values_6 := dk_seg dksX0_values_5 22 rfl rfl
theorem dksX0_values_7 : cX0_values.data.toList.drop 162 = dktX0_values_7 := dk_seg dksX0_values_6 23 rfl rfl
theorem dksX0_values_8 : cX0_values.data.toList.drop 186 = dktX0_values_8 := dk_seg dksX0_values_7 24 rfl rfl
theorem dksX0_values_9 : cX0_values.data.toList.drop 210 = dktX0_values_9 := dk_seg dksX0_values_8 24 rfl rfl
theorem dksX0_values_10 : cX0_values.data.toList.drop 234 = dktX0_values_10 := dk_seg dksX0_values_9 24 rfl rfl
theorem dksX0_values_11 : cX0_values.data.toList.drop 257 = dktX0_values_11 := dk_seg dksX0_values_10 23 rfl rfl
theorem dksX0_values_12 : cX0_values.data.toList.drop 281 = dktX0_values_12 := dk_seg dksX0_values_11 24 rfl rfl
theorem dksX0_values_13 : cX0_values.data.toList.drop 303 = dktX0_values_13 := dk_seg dksX0_values_12 22 rfl rfl
theorem dX0_values_0 : decode cX0_values 0 = .ok (.aload_n 0, 1) := dk_42 (dk_at dksX0_values_0 0 rfl rfl)
theorem dX0_values_1 : decode cX0_values 1 = .ok (.getfield 15, 3) := dk_180 0 15 (dk_at dksX0_values_0 1 rfl rfl)
theorem dX0_values_4 : decode cX0_values 4 = .ok (.newarray .long, 2) := dk_188_11 (dk_at dksX0_values_0 4 rfl rfl)
theorem dX0_values_6 : decode cX0_values 6 = .ok (.astore_n 1, 1) := dk_76 (dk_at dksX0_values_0 6 rfl rfl)
theorem dX0_values_7 : decode cX0_values 7 = .ok (.iconst 0, 1) := dk_3 (dk_at dksX0_values_0 7 rfl rfl)
theorem dX0_values_8 : decode cX0_values 8 = .ok (.istore_n 2, 1) := dk_61 (dk_at dksX0_values_0 8 rfl rfl)
theorem dX0_values_9 : decode cX0_values 9 = .ok (.iload_n 2, 1) := dk_28 (dk_at dksX0_values_0 9 rfl rfl)
theorem dX0_values_10 : decode cX0_values 10 = .ok (.aload_n 0, 1) := dk_42 (dk_at dksX0_values_0 10 rfl rfl)
theorem dX0_values_11 : decode cX0_values 11 = .ok (.getfield 15, 3) := dk_180 0 15 (dk_at dksX0_values_0 11 rfl rfl)
theorem dX0_values_14 : decode cX0_values 14 = .ok (.if_icmp .ge 305, 3) := dk_162 1 49 (dk_at dksX0_values_0 14 rfl rfl)
theorem dX0_values_17 : decode cX0_values 17 = .ok (.iconst 1, 1) := dk_4 (dk_at dksX0_values_0 17 rfl rfl)
theorem dX0_values_18 : decode cX0_values 18 = .ok (.istore_n 3, 1) := dk_62 (dk_at dksX0_values_0 18 rfl rfl)
theorem dX0_values_19 : decode cX0_values 19 = .ok (.new 160, 3) := dk_187 0 160 (dk_at dksX0_values_0 19 rfl rfl)
theorem dX0_values_22 : decode cX0_values 22 = .ok (.dup, 1) := dk_89 (dk_at dksX0_values_0 22 rfl rfl)
theorem dX0_values_23 : decode cX0_values 23 = .ok (.invokespecial 162, 3) := dk_183 0 162 (dk_at dksX0_values_1 0 rfl rfl)
theorem dX0_values_26 : decode cX0_values 26 = .ok (.astore 4, 2) := dk_58 4 (dk_at dksX0_values_1 3 rfl rfl)
theorem dX0_values_28 : decode cX0_values 28 = .ok (.ldc2_w 187, 3) := dk_20 0 187 (dk_at dksX0_values_1 5 rfl rfl)
theorem dX0_values_31 : decode cX0_values 31 = .ok (.lstore 5, 2) := dk_55 5 (dk_at dksX0_values_1 8 rfl rfl)
theorem dX0_values_33 : decode cX0_values 33 = .ok (.ldc2_w 187, 3) := dk_20 0 187 (dk_at dksX0_values_1 10 rfl rfl)
theorem dX0_values_36 : decode cX0_values 36 = .ok (.lstore 7, 2) := dk_55 7 (dk_at dksX0_values_1 13 rfl rfl)
theorem dX0_values_38 : decode cX0_values 38 = .ok (.aload_n 0, 1) := dk_42 (dk_at dksX0_values_1 15 rfl rfl)
theorem dX0_values_39 : decode cX0_values 39 = .ok (.getfield 81, 3) := dk_180 0 81 (dk_at dksX0_values_1 16 rfl rfl)
theorem dX0_values_42 : decode cX0_values 42 = .ok (.iload_n 2, 1) := dk_28 (dk_at dksX0_values_1 19 rfl rfl)
theorem dX0_values_43 : decode cX0_values 43 = .ok (.iaload, 1) := dk_46 (dk_at dksX0_values_1 20 rfl rfl)
theorem dX0_values_44 : decode cX0_values 44 = .ok (.istore 9, 2) := dk_54 9 (dk_at dksX0_values_1 21 rfl rfl)
theorem dX0_values_46 : decode cX0_values 46 = .ok (.iload 9, 2) := dk_21 9 (dk_at dksX0_values_2 0 rfl rfl)
theorem dX0_values_48 : decode cX0_values 48 = .ok (.ifCond .eq 50, 3) := dk_153 0 50 (dk_at dksX0_values_2 2 rfl rfl)
theorem dX0_values_51 : decode cX0_values 51 = .ok (.aload_n 1, 1) := dk_43 (dk_at dksX0_values_2 5 rfl rfl)
theorem dX0_values_52 : decode cX0_values 52 = .ok (.iload 9, 2) := dk_21 9 (dk_at dksX0_values_2 6 rfl rfl)
theorem dX0_values_54 : decode cX0_values 54 = .ok (.invokestatic 54, 3) := dk_184 0 54 (dk_at dksX0_values_2 8 rfl rfl)
theorem dX0_values_57 : decode cX0_values 57 = .ok (.laload, 1) := dk_47 (dk_at dksX0_values_2 11 rfl rfl)
theorem dX0_values_58 : decode cX0_values 58 = .ok (.lstore 10, 2) := dk_55 10 (dk_at dksX0_values_2 12 rfl rfl)
theorem dX0_values_60 : decode cX0_values 60 = .ok (.iload_n 3, 1) := dk_29 (dk_at dksX0_values_2 14 rfl rfl)
theorem dX0_values_61 : decode cX0_values 61 = .ok (.lload 10, 2) := dk_22 10 (dk_at dksX0_values_2 15 rfl rfl)
theorem dX0_values_63 : decode cX0_values 63 = .ok (.ldc2_w 187, 3) := dk_20 0 187 (dk_at dksX0_values_2 17 rfl rfl)
theorem dX0_values_66 : decode cX0_values 66 = .ok (.lcmp, 1) := dk_148 (dk_at dksX0_values_2 20 rfl rfl)
theorem dX0_values_67 : decode cX0_values 67 = .ok (.ifCond .eq 7, 3) := dk_153 0 7 (dk_at dksX0_values_2 21 rfl rfl)
theorem dX0_values_70 : decode cX0_values 70 = .ok (.iconst 1, 1) := dk_4 (dk_at dksX0_values_3 0 rfl rfl)
theorem dX0_values_71 : decode cX0_values 71 = .ok (.goto 4, 3) := dk_167 0 4 (dk_at dksX0_values_3 1 rfl rfl)
theorem dX0_values_74 : decode cX0_values 74 = .ok (.iconst 0, 1) := dk_3 (dk_at dksX0_values_3 4 rfl rfl)
theorem dX0_values_75 : decode cX0_values 75 = .ok (.iand, 1) := dk_126 (dk_at dksX0_values_3 5 rfl rfl)
theorem dX0_values_76 : decode cX0_values 76 = .ok (.istore_n 3, 1) := dk_62 (dk_at dksX0_values_3 6 rfl rfl)
theorem dX0_values_77 : decode cX0_values 77 = .ok (.lload 5, 2) := dk_22 5 (dk_at dksX0_values_3 7 rfl rfl)
theorem dX0_values_79 : decode cX0_values 79 = .ok (.lload 10, 2) := dk_22 10 (dk_at dksX0_values_3 9 rfl rfl)
theorem dX0_values_81 : decode cX0_values 81 = .ok (.invokestatic 189, 3) := dk_184 0 189 (dk_at dksX0_values_3 11 rfl rfl)
theorem dX0_values_84 : decode cX0_values 84 = .ok (.lstore 5, 2) := dk_55 5 (dk_at dksX0_values_3 14 rfl rfl)
theorem dX0_values_86 : decode cX0_values 86 = .ok (.iload 9, 2) := dk_21 9 (dk_at dksX0_values_3 16 rfl rfl)
theorem dX0_values_88 : decode cX0_values 88 = .ok (.iload 9, 2) := dk_21 9 (dk_at dksX0_values_3 18 rfl rfl)
theorem dX0_values_90 : decode cX0_values 90 = .ok (.iconst 1, 1) := dk_4 (dk_at dksX0_values_3 20 rfl rfl)
theorem dX0_values_91 : decode cX0_values 91 = .ok (.isub, 1) := dk_100 (dk_at dksX0_values_3 21 rfl rfl)
theorem dX0_values_92 : decode cX0_values 92 = .ok (.iand, 1) := dk_126 (dk_at dksX0_values_3 22 rfl rfl)
theorem dX0_values_93 : decode cX0_values 93 = .ok (.istore 9, 2) := dk_54 9 (dk_at dksX0_values_4 0 rfl rfl)
theorem dX0_values_95 : decode cX0_values 95 = .ok (.goto (-49), 3) := dk_167 255 207 (dk_at dksX0_values_4 2 rfl rfl)
theorem dX0_values_98 : decode cX0_values 98 = .ok (.aload_n 0, 1) := dk_42 (dk_at dksX0_values_4 5 rfl rfl)
theorem dX0_values_99 : decode cX0_values 99 = .ok (.getfield 88, 3) := dk_180 0 88 (dk_at dksX0_values_4 6 rfl rfl)
theorem dX0_values_102 : decode cX0_values 102 = .ok (.iload_n 2, 1) := dk_28 (dk_at dksX0_values_4 9 rfl rfl)
theorem dX0_values_103 : decode cX0_values 103 = .ok (.iaload, 1) := dk_46 (dk_at dksX0_values_4 10 rfl rfl)
theorem dX0_values_104 : decode cX0_values 104 = .ok (.istore 9, 2) := dk_54 9 (dk_at dksX0_values_4 11 rfl rfl)
theorem dX0_values_106 : decode cX0_values 106 = .ok (.iload 9, 2) := dk_21 9 (dk_at dksX0_values_4 13 rfl rfl)
theorem dX0_values_108 : decode cX0_values 108 = .ok (.ifCond .eq 64, 3) := dk_153 0 64 (dk_at dksX0_values_4 15 rfl rfl)
theorem dX0_values_111 : decode cX0_values 111 = .ok (.aload_n 1, 1) := dk_43 (dk_at dksX0_values_4 18 rfl rfl)
theorem dX0_values_112 : decode cX0_values 112 = .ok (.iload 9, 2) := dk_21 9 (dk_at dksX0_values_4 19 rfl rfl)
theorem dX0_values_114 : decode cX0_values 114 = .ok (.invokestatic 54, 3) := dk_184 0 54 (dk_at dksX0_values_4 21 rfl rfl)
theorem dX0_values_117 : decode cX0_values 117 = .ok (.laload, 1) := dk_47 (dk_at dksX0_values_5 0 rfl rfl)
theorem dX0_values_118 : decode cX0_values 118 = .ok (.lstore 10, 2) := dk_55 10 (dk_at dksX0_values_5 1 rfl rfl)
theorem dX0_values_120 : decode cX0_values 120 = .ok (.iload_n 3, 1) := dk_29 (dk_at dksX0_values_5 3 rfl rfl)
theorem dX0_values_121 : decode cX0_values 121 = .ok (.lload 10, 2) := dk_22 10 (dk_at dksX0_values_5 4 rfl rfl)
theorem dX0_values_123 : decode cX0_values 123 = .ok (.ldc2_w 187, 3) := dk_20 0 187 (dk_at dksX0_values_5 6 rfl rfl)
theorem dX0_values_126 : decode cX0_values 126 = .ok (.lcmp, 1) := dk_148 (dk_at dksX0_values_5 9 rfl rfl)
theorem dX0_values_127 : decode cX0_values 127 = .ok (.ifCond .eq 7, 3) := dk_153 0 7 (dk_at dksX0_values_5 10 rfl rfl)
theorem dX0_values_130 : decode cX0_values 130 = .ok (.iconst 1, 1) := dk_4 (dk_at dksX0_values_5 13 rfl rfl)
theorem dX0_values_131 : decode cX0_values 131 = .ok (.goto 4, 3) := dk_167 0 4 (dk_at dksX0_values_5 14 rfl rfl)
theorem dX0_values_134 : decode cX0_values 134 = .ok (.iconst 0, 1) := dk_3 (dk_at dksX0_values_5 17 rfl rfl)
theorem dX0_values_135 : decode cX0_values 135 = .ok (.iand, 1) := dk_126 (dk_at dksX0_values_5 18 rfl rfl)
theorem dX0_values_136 : decode cX0_values 136 = .ok (.istore_n 3, 1) := dk_62 (dk_at dksX0_values_5 19 rfl rfl)
theorem dX0_values_137 : decode cX0_values 137 = .ok (.lload 7, 2) := dk_22 7 (dk_at dksX0_values_5 20 rfl rfl)
theorem dX0_values_139 : decode cX0_values 139 = .ok (.ldc2_w 187, 3) := dk_20 0 187 (dk_at dksX0_values_6 0 rfl rfl)
theorem dX0_values_142 : decode cX0_values 142 = .ok (.lcmp, 1) := dk_148 (dk_at dksX0_values_6 3 rfl rfl)
theorem dX0_values_143 : decode cX0_values 143 = .ok (.ifCond .ne 8, 3) := dk_154 0 8 (dk_at dksX0_values_6 4 rfl rfl)
theorem dX0_values_146 : decode cX0_values 146 = .ok (.lload 10, 2) := dk_22 10 (dk_at dksX0_values_6 7 rfl rfl)
theorem dX0_values_148 : decode cX0_values 148 = .ok (.goto 10, 3) := dk_167 0 10 (dk_at dksX0_values_6 9 rfl rfl)
theorem dX0_values_151 : decode cX0_values 151 = .ok (.lload 7, 2) := dk_22 7 (dk_at dksX0_values_6 12 rfl rfl)
theorem dX0_values_153 : decode cX0_values 153 = .ok (.lload 10, 2) := dk_22 10 (dk_at dksX0_values_6 14 rfl rfl)
theorem dX0_values_155 : decode cX0_values 155 = .ok (.invokestatic 193, 3) := dk_184 0 193 (dk_at dksX0_values_6 16 rfl rfl)
theorem dX0_values_158 : decode cX0_values 158 = .ok (.lstore 7, 2) := dk_55 7 (dk_at dksX0_values_6 19 rfl rfl)
theorem dX0_values_160 : decode cX0_values 160 = .ok (.iload 9, 2) := dk_21 9 (dk_at dksX0_values_6 21 rfl rfl)
theorem dX0_values_162 : decode cX0_values 162 = .ok (.iload 9, 2) := dk_21 9 (dk_at dksX0_values_7 0 rfl rfl)
theorem dX0_values_164 : decode cX0_values 164 = .ok (.iconst 1, 1) := dk_4 (dk_at dksX0_values_7 2 rfl rfl)
theorem dX0_values_165 : decode cX0_values 165 = .ok (.isub, 1) := dk_100 (dk_at dksX0_values_7 3 rfl rfl)
theorem dX0_values_166 : decode cX0_values 166 = .ok (.iand, 1) := dk_126 (dk_at dksX0_values_7 4 rfl rfl)
theorem dX0_values_167 : decode cX0_values 167 = .ok (.istore 9, 2) := dk_54 9 (dk_at dksX0_values_7 5 rfl rfl)
theorem dX0_values_169 : decode cX0_values 169 = .ok (.goto (-63), 3) := dk_167 255 193 (dk_at dksX0_values_7 7 rfl rfl)
theorem dX0_values_172 : decode cX0_values 172 = .ok (.aload_n 0, 1) := dk_42 (dk_at dksX0_values_7 10 rfl rfl)
theorem dX0_values_173 : decode cX0_values 173 = .ok (.getfield 81, 3) := dk_180 0 81 (dk_at dksX0_values_7 11 rfl rfl)
theorem dX0_values_176 : decode cX0_values 176 = .ok (.iload_n 2, 1) := dk_28 (dk_at dksX0_values_7 14 rfl rfl)
theorem dX0_values_177 : decode cX0_values 177 = .ok (.iaload, 1) := dk_46 (dk_at dksX0_values_7 15 rfl rfl)
theorem dX0_values_178 : decode cX0_values 178 = .ok (.ifCond .eq 7, 3) := dk_153 0 7 (dk_at dksX0_values_7 16 rfl rfl)
theorem dX0_values_181 : decode cX0_values 181 = .ok (.iconst 1, 1) := dk_4 (dk_at dksX0_values_7 19 rfl rfl)
theorem dX0_values_182 : decode cX0_values 182 = .ok (.goto 4, 3) := dk_167 0 4 (dk_at dksX0_values_7 20 rfl rfl)
theorem dX0_values_185 : decode cX0_values 185 = .ok (.iconst 0, 1) := dk_3 (dk_at dksX0_values_7 23 rfl rfl)
theorem dX0_values_186 : decode cX0_values 186 = .ok (.istore 9, 2) := dk_54 9 (dk_at dksX0_values_8 0 rfl rfl)
theorem dX0_values_188 : decode cX0_values 188 = .ok (.aload_n 0, 1) := dk_42 (dk_at dksX0_values_8 2 rfl rfl)
theorem dX0_values_189 : decode cX0_values 189 = .ok (.getfield 88, 3) := dk_180 0 88 (dk_at dksX0_values_8 3 rfl rfl)
theorem dX0_values_192 : decode cX0_values 192 = .ok (.iload_n 2, 1) := dk_28 (dk_at dksX0_values_8 6 rfl rfl)
theorem dX0_values_193 : decode cX0_values 193 = .ok (.iaload, 1) := dk_46 (dk_at dksX0_values_8 7 rfl rfl)
theorem dX0_values_194 : decode cX0_values 194 = .ok (.ifCond .eq 7, 3) := dk_153 0 7 (dk_at dksX0_values_8 8 rfl rfl)
theorem dX0_values_197 : decode cX0_values 197 = .ok (.iconst 1, 1) := dk_4 (dk_at dksX0_values_8 11 rfl rfl)
theorem dX0_values_198 : decode cX0_values 198 = .ok (.goto 4, 3) := dk_167 0 4 (dk_at dksX0_values_8 12 rfl rfl)
theorem dX0_values_201 : decode cX0_values 201 = .ok (.iconst 0, 1) := dk_3 (dk_at dksX0_values_8 15 rfl rfl)
theorem dX0_values_202 : decode cX0_values 202 = .ok (.istore 10, 2) := dk_54 10 (dk_at dksX0_values_8 16 rfl rfl)
theorem dX0_values_204 : decode cX0_values 204 = .ok (.iload_n 3, 1) := dk_29 (dk_at dksX0_values_8 18 rfl rfl)
theorem dX0_values_205 : decode cX0_values 205 = .ok (.iload 9, 2) := dk_21 9 (dk_at dksX0_values_8 19 rfl rfl)
theorem dX0_values_207 : decode cX0_values 207 = .ok (.ifCond .eq 16, 3) := dk_153 0 16 (dk_at dksX0_values_8 21 rfl rfl)
theorem dX0_values_210 : decode cX0_values 210 = .ok (.iload 10, 2) := dk_21 10 (dk_at dksX0_values_9 0 rfl rfl)
theorem dX0_values_212 : decode cX0_values 212 = .ok (.ifCond .eq 11, 3) := dk_153 0 11 (dk_at dksX0_values_9 2 rfl rfl)
theorem dX0_values_215 : decode cX0_values 215 = .ok (.lload 5, 2) := dk_22 5 (dk_at dksX0_values_9 5 rfl rfl)
theorem dX0_values_217 : decode cX0_values 217 = .ok (.lload 7, 2) := dk_22 7 (dk_at dksX0_values_9 7 rfl rfl)
theorem dX0_values_219 : decode cX0_values 219 = .ok (.lcmp, 1) := dk_148 (dk_at dksX0_values_9 9 rfl rfl)
theorem dX0_values_220 : decode cX0_values 220 = .ok (.ifCond .ge 7, 3) := dk_156 0 7 (dk_at dksX0_values_9 10 rfl rfl)
theorem dX0_values_223 : decode cX0_values 223 = .ok (.iconst 1, 1) := dk_4 (dk_at dksX0_values_9 13 rfl rfl)
theorem dX0_values_224 : decode cX0_values 224 = .ok (.goto 4, 3) := dk_167 0 4 (dk_at dksX0_values_9 14 rfl rfl)
theorem dX0_values_227 : decode cX0_values 227 = .ok (.iconst 0, 1) := dk_3 (dk_at dksX0_values_9 17 rfl rfl)
theorem dX0_values_228 : decode cX0_values 228 = .ok (.iand, 1) := dk_126 (dk_at dksX0_values_9 18 rfl rfl)
theorem dX0_values_229 : decode cX0_values 229 = .ok (.istore_n 3, 1) := dk_62 (dk_at dksX0_values_9 19 rfl rfl)
theorem dX0_values_230 : decode cX0_values 230 = .ok (.iload_n 3, 1) := dk_29 (dk_at dksX0_values_9 20 rfl rfl)
theorem dX0_values_231 : decode cX0_values 231 = .ok (.ifCond .eq 64, 3) := dk_153 0 64 (dk_at dksX0_values_9 21 rfl rfl)
theorem dX0_values_234 : decode cX0_values 234 = .ok (.iload 9, 2) := dk_21 9 (dk_at dksX0_values_10 0 rfl rfl)
theorem dX0_values_236 : decode cX0_values 236 = .ok (.ifCond .eq 14, 3) := dk_153 0 14 (dk_at dksX0_values_10 2 rfl rfl)
theorem dX0_values_239 : decode cX0_values 239 = .ok (.aload 4, 2) := dk_25 4 (dk_at dksX0_values_10 5 rfl rfl)
theorem dX0_values_241 : decode cX0_values 241 = .ok (.getfield 163, 3) := dk_180 0 163 (dk_at dksX0_values_10 7 rfl rfl)
theorem dX0_values_244 : decode cX0_values 244 = .ok (.lload 5, 2) := dk_22 5 (dk_at dksX0_values_10 10 rfl rfl)
theorem dX0_values_246 : decode cX0_values 246 = .ok (.lcmp, 1) := dk_148 (dk_at dksX0_values_10 12 rfl rfl)
theorem dX0_values_247 : decode cX0_values 247 = .ok (.ifCond .le 19, 3) := dk_158 0 19 (dk_at dksX0_values_10 13 rfl rfl)
theorem dX0_values_250 : decode cX0_values 250 = .ok (.iload 10, 2) := dk_21 10 (dk_at dksX0_values_10 16 rfl rfl)
theorem dX0_values_252 : decode cX0_values 252 = .ok (.ifCond .eq 43, 3) := dk_153 0 43 (dk_at dksX0_values_10 18 rfl rfl)
theorem dX0_values_255 : decode cX0_values 255 = .ok (.aload 4, 2) := dk_25 4 (dk_at dksX0_values_10 21 rfl rfl)
theorem dX0_values_257 : decode cX0_values 257 = .ok (.getfield 163, 3) := dk_180 0 163 (dk_at dksX0_values_11 0 rfl rfl)
theorem dX0_values_260 : decode cX0_values 260 = .ok (.lload 7, 2) := dk_22 7 (dk_at dksX0_values_11 3 rfl rfl)
theorem dX0_values_262 : decode cX0_values 262 = .ok (.lcmp, 1) := dk_148 (dk_at dksX0_values_11 5 rfl rfl)
theorem dX0_values_263 : decode cX0_values 263 = .ok (.ifCond .lt 32, 3) := dk_155 0 32 (dk_at dksX0_values_11 6 rfl rfl)
theorem dX0_values_266 : decode cX0_values 266 = .ok (.aload 4, 2) := dk_25 4 (dk_at dksX0_values_11 9 rfl rfl)
theorem dX0_values_268 : decode cX0_values 268 = .ok (.iload 9, 2) := dk_21 9 (dk_at dksX0_values_11 11 rfl rfl)
theorem dX0_values_270 : decode cX0_values 270 = .ok (.ifCond .eq 18, 3) := dk_153 0 18 (dk_at dksX0_values_11 13 rfl rfl)
theorem dX0_values_273 : decode cX0_values 273 = .ok (.aload 4, 2) := dk_25 4 (dk_at dksX0_values_11 16 rfl rfl)
theorem dX0_values_275 : decode cX0_values 275 = .ok (.getfield 163, 3) := dk_180 0 163 (dk_at dksX0_values_11 18 rfl rfl)
theorem dX0_values_278 : decode cX0_values 278 = .ok (.lload 5, 2) := dk_22 5 (dk_at dksX0_values_11 21 rfl rfl)
theorem dX0_values_280 : decode cX0_values 280 = .ok (.lcmp, 1) := dk_148 (dk_at dksX0_values_11 23 rfl rfl)
theorem dX0_values_281 : decode cX0_values 281 = .ok (.ifCond .gt 7, 3) := dk_157 0 7 (dk_at dksX0_values_12 0 rfl rfl)
theorem dX0_values_284 : decode cX0_values 284 = .ok (.iconst 1, 1) := dk_4 (dk_at dksX0_values_12 3 rfl rfl)
theorem dX0_values_285 : decode cX0_values 285 = .ok (.goto 4, 3) := dk_167 0 4 (dk_at dksX0_values_12 4 rfl rfl)
theorem dX0_values_288 : decode cX0_values 288 = .ok (.iconst 0, 1) := dk_3 (dk_at dksX0_values_12 7 rfl rfl)
theorem dX0_values_289 : decode cX0_values 289 = .ok (.invokevirtual 175, 3) := dk_182 0 175 (dk_at dksX0_values_12 8 rfl rfl)
theorem dX0_values_292 : decode cX0_values 292 = .ok (.goto (-62), 3) := dk_167 255 194 (dk_at dksX0_values_12 11 rfl rfl)
theorem dX0_values_295 : decode cX0_values 295 = .ok (.aload_n 1, 1) := dk_43 (dk_at dksX0_values_12 14 rfl rfl)
theorem dX0_values_296 : decode cX0_values 296 = .ok (.iload_n 2, 1) := dk_28 (dk_at dksX0_values_12 15 rfl rfl)
theorem dX0_values_297 : decode cX0_values 297 = .ok (.iload_n 3, 1) := dk_29 (dk_at dksX0_values_12 16 rfl rfl)
theorem dX0_values_298 : decode cX0_values 298 = .ok (.ifCond .eq 11, 3) := dk_153 0 11 (dk_at dksX0_values_12 17 rfl rfl)
theorem dX0_values_301 : decode cX0_values 301 = .ok (.aload 4, 2) := dk_25 4 (dk_at dksX0_values_12 20 rfl rfl)
theorem dX0_values_303 : decode cX0_values 303 = .ok (.getfield 163, 3) := dk_180 0 163 (dk_at dksX0_values_13 0 rfl rfl)
theorem dX0_values_306 : decode cX0_values 306 = .ok (.goto 6, 3) := dk_167 0 6 (dk_at dksX0_values_13 3 rfl rfl)
theorem dX0_values_309 : decode cX0_values 309 = .ok (.ldc2_w 187, 3) := dk_20 0 187 (dk_at dksX0_values_13 6 rfl rfl)
theorem dX0_values_312 : decode cX0_values 312 = .ok (.lastore, 1) := dk_80 (dk_at dksX0_values_13 9 rfl rfl)
theorem dX0_values_313 : decode cX0_values 313 = .ok (.iinc 2 1, 3) := dk_132 2 1 (dk_at dksX0_values_13 10 rfl rfl)
theorem dX0_values_316 : decode cX0_values 316 = .ok (.goto (-307), 3) := dk_167 254 205 (dk_at dksX0_values_13 13 rfl rfl)
theorem dX0_values_319 : decode cX0_values 319 = .ok (.aload_n 1, 1) := dk_43 (dk_at dksX0_values_13 16 rfl rfl)
theorem dX0_values_320 : decode cX0_values 320 = .ok (.areturn, 1) := dk_176 (dk_at dksX0_values_13 17 rfl rfl)
abbrev cX0_lambda_multiply_10 : ByteArray := prog_1_method_75_code
def yX0_lambda_multiply_10 : MethodName := ⟨RX0, "lambda$multiply$10", "(JJ)LGameCalculator$Form;"⟩
def dkwX0_lambda_multiply_10_0 : List UInt8 := [42, 31, 33, 182, 1, 212, 176]
abbrev dktX0_lambda_multiply_10_0 : List UInt8 := dkwX0_lambda_multiply_10_0 ++ []
theorem dksX0_lambda_multiply_10_0 : cX0_lambda_multiply_10.data.toList.drop 0 = dktX0_lambda_multiply_10_0 := by decide +kernel
theorem dX0_lambda_multiply_10_0 : decode cX0_lambda_multiply_10 0 = .ok (.aload_n 0, 1) := dk_42 (dk_at dksX0_lambda_multiply_10_0 0 rfl rfl)
theorem dX0_lambda_multiply_10_1 : decode cX0_lambda_multiply_10 1 = .ok (.lload_n 1, 1) := dk_31 (dk_at dksX0_lambda_multiply_10_0 1 rfl rfl)
theorem dX0_lambda_multiply_10_2 : decode cX0_lambda_multiply_10 2 = .ok (.lload_n 3, 1) := dk_33 (dk_at dksX0_lambda_multiply_10_0 2 rfl rfl)
theorem dX0_lambda_multiply_10_3 : decode cX0_lambda_multiply_10 3 = .ok (.invokevirtual 468, 3) := dk_182 1 212 (dk_at dksX0_lambda_multiply_10_0 3 rfl rfl)
theorem dX0_lambda_multiply_10_6 : decode cX0_lambda_multiply_10 6 = .ok (.areturn, 1) := dk_176 (dk_at dksX0_lambda_multiply_10_0 6 rfl rfl)
abbrev cX0_product : ByteArray := prog_1_method_45_code
def yX0_product : MethodName := ⟨RX0, "product", "(JJ)LGameCalculator$Form;"⟩
def dkwX0_product_3 : List UInt8 := [187, 0, 21, 89, 183, 0, 23, 191, 42, 22, 5, 16, 32, 21, 7, 100, 121, 182, 1, 107, 176]
abbrev dktX0_product_3 : List UInt8 := dkwX0_product_3 ++ []
def dkwX0_product_2 : List UInt8 := [154, 0, 17, 22, 5, 20, 1, 105, 109, 55, 5, 132, 7, 255, 167, 255, 229, 21, 7, 16, 31, 164, 0, 11]
abbrev dktX0_product_2 : List UInt8 := dkwX0_product_2 ++ dktX0_product_3
def dkwX0_product_1 : List UInt8 := [184, 0, 209, 33, 184, 0, 209, 96, 54, 7, 21, 7, 158, 0, 28, 22, 5, 20, 1, 105, 113, 9, 148]
abbrev dktX0_product_1 : List UInt8 := dkwX0_product_1 ++ dktX0_product_2
def dkwX0_product_0 : List UInt8 := [31, 16, 32, 31, 184, 0, 209, 100, 123, 33, 16, 32, 33, 184, 0, 209, 100, 123, 105, 55, 5, 31]
abbrev dktX0_product_0 : List UInt8 := dkwX0_product_0 ++ dktX0_product_1
theorem dksX0_product_0 : cX0_product.data.toList.drop 0 = dktX0_product_0 := by decide +kernel
theorem dksX0_product_1 : cX0_product.data.toList.drop 22 = dktX0_product_1 := dk_seg dksX0_product_0 22 rfl rfl
theorem dksX0_product_2 : cX0_product.data.toList.drop 45 = dktX0_product_2 := dk_seg dksX0_product_1 23 rfl rfl
theorem dksX0_product_3 : cX0_product.data.toList.drop 69 = dktX0_product_3 := dk_seg dksX0_product_2 24 rfl rfl
theorem dX0_product_0 : decode cX0_product 0 = .ok (.lload_n 1, 1) := dk_31 (dk_at dksX0_product_0 0 rfl rfl)
theorem dX0_product_1 : decode cX0_product 1 = .ok (.bipush 32, 2) := dk_16 32 (dk_at dksX0_product_0 1 rfl rfl)
theorem dX0_product_3 : decode cX0_product 3 = .ok (.lload_n 1, 1) := dk_31 (dk_at dksX0_product_0 3 rfl rfl)
theorem dX0_product_4 : decode cX0_product 4 = .ok (.invokestatic 209, 3) := dk_184 0 209 (dk_at dksX0_product_0 4 rfl rfl)
theorem dX0_product_7 : decode cX0_product 7 = .ok (.isub, 1) := dk_100 (dk_at dksX0_product_0 7 rfl rfl)
theorem dX0_product_8 : decode cX0_product 8 = .ok (.lshr, 1) := dk_123 (dk_at dksX0_product_0 8 rfl rfl)
theorem dX0_product_9 : decode cX0_product 9 = .ok (.lload_n 3, 1) := dk_33 (dk_at dksX0_product_0 9 rfl rfl)
theorem dX0_product_10 : decode cX0_product 10 = .ok (.bipush 32, 2) := dk_16 32 (dk_at dksX0_product_0 10 rfl rfl)
theorem dX0_product_12 : decode cX0_product 12 = .ok (.lload_n 3, 1) := dk_33 (dk_at dksX0_product_0 12 rfl rfl)
theorem dX0_product_13 : decode cX0_product 13 = .ok (.invokestatic 209, 3) := dk_184 0 209 (dk_at dksX0_product_0 13 rfl rfl)
theorem dX0_product_16 : decode cX0_product 16 = .ok (.isub, 1) := dk_100 (dk_at dksX0_product_0 16 rfl rfl)
theorem dX0_product_17 : decode cX0_product 17 = .ok (.lshr, 1) := dk_123 (dk_at dksX0_product_0 17 rfl rfl)
theorem dX0_product_18 : decode cX0_product 18 = .ok (.lmul, 1) := dk_105 (dk_at dksX0_product_0 18 rfl rfl)
theorem dX0_product_19 : decode cX0_product 19 = .ok (.lstore 5, 2) := dk_55 5 (dk_at dksX0_product_0 19 rfl rfl)
theorem dX0_product_21 : decode cX0_product 21 = .ok (.lload_n 1, 1) := dk_31 (dk_at dksX0_product_0 21 rfl rfl)
theorem dX0_product_22 : decode cX0_product 22 = .ok (.invokestatic 209, 3) := dk_184 0 209 (dk_at dksX0_product_1 0 rfl rfl)
theorem dX0_product_25 : decode cX0_product 25 = .ok (.lload_n 3, 1) := dk_33 (dk_at dksX0_product_1 3 rfl rfl)
theorem dX0_product_26 : decode cX0_product 26 = .ok (.invokestatic 209, 3) := dk_184 0 209 (dk_at dksX0_product_1 4 rfl rfl)
theorem dX0_product_29 : decode cX0_product 29 = .ok (.iadd, 1) := dk_96 (dk_at dksX0_product_1 7 rfl rfl)
theorem dX0_product_30 : decode cX0_product 30 = .ok (.istore 7, 2) := dk_54 7 (dk_at dksX0_product_1 8 rfl rfl)
theorem dX0_product_32 : decode cX0_product 32 = .ok (.iload 7, 2) := dk_21 7 (dk_at dksX0_product_1 10 rfl rfl)
theorem dX0_product_34 : decode cX0_product 34 = .ok (.ifCond .le 28, 3) := dk_158 0 28 (dk_at dksX0_product_1 12 rfl rfl)
theorem dX0_product_37 : decode cX0_product 37 = .ok (.lload 5, 2) := dk_22 5 (dk_at dksX0_product_1 15 rfl rfl)
theorem dX0_product_39 : decode cX0_product 39 = .ok (.ldc2_w 361, 3) := dk_20 1 105 (dk_at dksX0_product_1 17 rfl rfl)
theorem dX0_product_42 : decode cX0_product 42 = .ok (.lrem, 1) := dk_113 (dk_at dksX0_product_1 20 rfl rfl)
theorem dX0_product_43 : decode cX0_product 43 = .ok (.lconst 0, 1) := dk_9 (dk_at dksX0_product_1 21 rfl rfl)
theorem dX0_product_44 : decode cX0_product 44 = .ok (.lcmp, 1) := dk_148 (dk_at dksX0_product_1 22 rfl rfl)
theorem dX0_product_45 : decode cX0_product 45 = .ok (.ifCond .ne 17, 3) := dk_154 0 17 (dk_at dksX0_product_2 0 rfl rfl)
theorem dX0_product_48 : decode cX0_product 48 = .ok (.lload 5, 2) := dk_22 5 (dk_at dksX0_product_2 3 rfl rfl)
theorem dX0_product_50 : decode cX0_product 50 = .ok (.ldc2_w 361, 3) := dk_20 1 105 (dk_at dksX0_product_2 5 rfl rfl)
theorem dX0_product_53 : decode cX0_product 53 = .ok (.ldiv, 1) := dk_109 (dk_at dksX0_product_2 8 rfl rfl)
theorem dX0_product_54 : decode cX0_product 54 = .ok (.lstore 5, 2) := dk_55 5 (dk_at dksX0_product_2 9 rfl rfl)
theorem dX0_product_56 : decode cX0_product 56 = .ok (.iinc 7 (-1), 3) := dk_132 7 255 (dk_at dksX0_product_2 11 rfl rfl)
theorem dX0_product_59 : decode cX0_product 59 = .ok (.goto (-27), 3) := dk_167 255 229 (dk_at dksX0_product_2 14 rfl rfl)
theorem dX0_product_62 : decode cX0_product 62 = .ok (.iload 7, 2) := dk_21 7 (dk_at dksX0_product_2 17 rfl rfl)
theorem dX0_product_64 : decode cX0_product 64 = .ok (.bipush 31, 2) := dk_16 31 (dk_at dksX0_product_2 19 rfl rfl)
theorem dX0_product_66 : decode cX0_product 66 = .ok (.if_icmp .le 11, 3) := dk_164 0 11 (dk_at dksX0_product_2 21 rfl rfl)
theorem dX0_product_69 : decode cX0_product 69 = .ok (.new 21, 3) := dk_187 0 21 (dk_at dksX0_product_3 0 rfl rfl)
theorem dX0_product_72 : decode cX0_product 72 = .ok (.dup, 1) := dk_89 (dk_at dksX0_product_3 3 rfl rfl)
theorem dX0_product_73 : decode cX0_product 73 = .ok (.invokespecial 23, 3) := dk_183 0 23 (dk_at dksX0_product_3 4 rfl rfl)
theorem dX0_product_76 : decode cX0_product 76 = .ok (.athrow, 1) := dk_191 (dk_at dksX0_product_3 7 rfl rfl)
theorem dX0_product_77 : decode cX0_product 77 = .ok (.aload_n 0, 1) := dk_42 (dk_at dksX0_product_3 8 rfl rfl)
theorem dX0_product_78 : decode cX0_product 78 = .ok (.lload 5, 2) := dk_22 5 (dk_at dksX0_product_3 9 rfl rfl)
theorem dX0_product_80 : decode cX0_product 80 = .ok (.bipush 32, 2) := dk_16 32 (dk_at dksX0_product_3 11 rfl rfl)
theorem dX0_product_82 : decode cX0_product 82 = .ok (.iload 7, 2) := dk_21 7 (dk_at dksX0_product_3 13 rfl rfl)
theorem dX0_product_84 : decode cX0_product 84 = .ok (.isub, 1) := dk_100 (dk_at dksX0_product_3 15 rfl rfl)
theorem dX0_product_85 : decode cX0_product 85 = .ok (.lshl, 1) := dk_121 (dk_at dksX0_product_3 16 rfl rfl)
theorem dX0_product_86 : decode cX0_product 86 = .ok (.invokevirtual 363, 3) := dk_182 1 107 (dk_at dksX0_product_3 17 rfl rfl)
theorem dX0_product_89 : decode cX0_product 89 = .ok (.areturn, 1) := dk_176 (dk_at dksX0_product_3 20 rfl rfl)
abbrev cX0_exponent : ByteArray := prog_1_method_20_code
def yX0_exponent : MethodName := ⟨RX0, "exponent", "(J)I"⟩
def dkwX0_exponent_0 : List UInt8 := [30, 9, 148, 154, 0, 7, 3, 167, 0, 14, 3, 16, 32, 30, 184, 0, 204, 100, 184, 0, 207, 172]
abbrev dktX0_exponent_0 : List UInt8 := dkwX0_exponent_0 ++ []
theorem dksX0_exponent_0 : cX0_exponent.data.toList.drop 0 = dktX0_exponent_0 := by decide +kernel
theorem dX0_exponent_0 : decode cX0_exponent 0 = .ok (.lload_n 0, 1) := dk_30 (dk_at dksX0_exponent_0 0 rfl rfl)
theorem dX0_exponent_1 : decode cX0_exponent 1 = .ok (.lconst 0, 1) := dk_9 (dk_at dksX0_exponent_0 1 rfl rfl)
theorem dX0_exponent_2 : decode cX0_exponent 2 = .ok (.lcmp, 1) := dk_148 (dk_at dksX0_exponent_0 2 rfl rfl)
theorem dX0_exponent_3 : decode cX0_exponent 3 = .ok (.ifCond .ne 7, 3) := dk_154 0 7 (dk_at dksX0_exponent_0 3 rfl rfl)
theorem dX0_exponent_6 : decode cX0_exponent 6 = .ok (.iconst 0, 1) := dk_3 (dk_at dksX0_exponent_0 6 rfl rfl)
theorem dX0_exponent_7 : decode cX0_exponent 7 = .ok (.goto 14, 3) := dk_167 0 14 (dk_at dksX0_exponent_0 7 rfl rfl)
theorem dX0_exponent_10 : decode cX0_exponent 10 = .ok (.iconst 0, 1) := dk_3 (dk_at dksX0_exponent_0 10 rfl rfl)
theorem dX0_exponent_11 : decode cX0_exponent 11 = .ok (.bipush 32, 2) := dk_16 32 (dk_at dksX0_exponent_0 11 rfl rfl)
theorem dX0_exponent_13 : decode cX0_exponent 13 = .ok (.lload_n 0, 1) := dk_30 (dk_at dksX0_exponent_0 13 rfl rfl)
theorem dX0_exponent_14 : decode cX0_exponent 14 = .ok (.invokestatic 204, 3) := dk_184 0 204 (dk_at dksX0_exponent_0 14 rfl rfl)
theorem dX0_exponent_17 : decode cX0_exponent 17 = .ok (.isub, 1) := dk_100 (dk_at dksX0_exponent_0 17 rfl rfl)
theorem dX0_exponent_18 : decode cX0_exponent 18 = .ok (.invokestatic 207, 3) := dk_184 0 207 (dk_at dksX0_exponent_0 18 rfl rfl)
theorem dX0_exponent_21 : decode cX0_exponent 21 = .ok (.ireturn, 1) := dk_172 (dk_at dksX0_exponent_0 21 rfl rfl)
abbrev cX0_reciprocal : ByteArray := prog_1_method_47_code
def yX0_reciprocal : MethodName := ⟨RX0, "reciprocal", "(II)I"⟩
def dkwX0_reciprocal_4 : List UInt8 := [55, 8, 42, 4, 28, 42, 33, 22, 8, 186, 1, 124, 0, 0, 182, 1, 24, 184, 1, 28, 172]
abbrev dktX0_reciprocal_4 : List UInt8 := dkwX0_reciprocal_4 ++ []
def dkwX0_reciprocal_3 : List UInt8 := [158, 0, 12, 20, 1, 120, 21, 7, 123, 167, 0, 14, 20, 1, 120, 21, 7, 116, 8, 184, 1, 122, 121]
abbrev dktX0_reciprocal_3 : List UInt8 := dkwX0_reciprocal_3 ++ dktX0_reciprocal_4
def dkwX0_reciprocal_2 : List UInt8 := [184, 1, 117, 4, 159, 0, 7, 19, 1, 88, 172, 22, 5, 184, 0, 204, 16, 32, 100, 54, 7, 21, 7]
abbrev dktX0_reciprocal_2 : List UInt8 := dkwX0_reciprocal_2 ++ dktX0_reciprocal_3
def dkwX0_reciprocal_1 : List UInt8 := [184, 0, 200, 66, 33, 20, 0, 187, 148, 154, 0, 7, 19, 1, 110, 172, 33, 184, 1, 114, 55, 5, 22, 5]
abbrev dktX0_reciprocal_1 : List UInt8 := dkwX0_reciprocal_1 ++ dktX0_reciprocal_2
def dkwX0_reciprocal_0 : List UInt8 := [27, 184, 0, 254, 153, 0, 10, 28, 184, 0, 254, 154, 0, 7, 19, 1, 1, 172, 42, 180, 0, 217, 27, 50]
abbrev dktX0_reciprocal_0 : List UInt8 := dkwX0_reciprocal_0 ++ dktX0_reciprocal_1
theorem dksX0_reciprocal_0 : cX0_reciprocal.data.toList.drop 0 = dktX0_reciprocal_0 := by decide +kernel
theorem dksX0_reciprocal_1 : cX0_reciprocal.data.toList.drop 24 = dktX0_reciprocal_1 := dk_seg dksX0_reciprocal_0 24 rfl rfl
theorem dksX0_reciprocal_2 : cX0_reciprocal.data.toList.drop 48 = dktX0_reciprocal_2 := dk_seg dksX0_reciprocal_1 24 rfl rfl
theorem dksX0_reciprocal_3 : cX0_reciprocal.data.toList.drop 71 = dktX0_reciprocal_3 := dk_seg dksX0_reciprocal_2 23 rfl rfl
theorem dksX0_reciprocal_4 : cX0_reciprocal.data.toList.drop 94 = dktX0_reciprocal_4 := dk_seg dksX0_reciprocal_3 23 rfl rfl
theorem dX0_reciprocal_0 : decode cX0_reciprocal 0 = .ok (.iload_n 1, 1) := dk_27 (dk_at dksX0_reciprocal_0 0 rfl rfl)
theorem dX0_reciprocal_1 : decode cX0_reciprocal 1 = .ok (.invokestatic 254, 3) := dk_184 0 254 (dk_at dksX0_reciprocal_0 1 rfl rfl)
theorem dX0_reciprocal_4 : decode cX0_reciprocal 4 = .ok (.ifCond .eq 10, 3) := dk_153 0 10 (dk_at dksX0_reciprocal_0 4 rfl rfl)
theorem dX0_reciprocal_7 : decode cX0_reciprocal 7 = .ok (.iload_n 2, 1) := dk_28 (dk_at dksX0_reciprocal_0 7 rfl rfl)
theorem dX0_reciprocal_8 : decode cX0_reciprocal 8 = .ok (.invokestatic 254, 3) := dk_184 0 254 (dk_at dksX0_reciprocal_0 8 rfl rfl)
theorem dX0_reciprocal_11 : decode cX0_reciprocal 11 = .ok (.ifCond .ne 7, 3) := dk_154 0 7 (dk_at dksX0_reciprocal_0 11 rfl rfl)
theorem dX0_reciprocal_14 : decode cX0_reciprocal 14 = .ok (.ldc_w 257, 3) := dk_19 1 1 (dk_at dksX0_reciprocal_0 14 rfl rfl)
theorem dX0_reciprocal_17 : decode cX0_reciprocal 17 = .ok (.ireturn, 1) := dk_172 (dk_at dksX0_reciprocal_0 17 rfl rfl)
theorem dX0_reciprocal_18 : decode cX0_reciprocal 18 = .ok (.aload_n 0, 1) := dk_42 (dk_at dksX0_reciprocal_0 18 rfl rfl)
theorem dX0_reciprocal_19 : decode cX0_reciprocal 19 = .ok (.getfield 217, 3) := dk_180 0 217 (dk_at dksX0_reciprocal_0 19 rfl rfl)
theorem dX0_reciprocal_22 : decode cX0_reciprocal 22 = .ok (.iload_n 1, 1) := dk_27 (dk_at dksX0_reciprocal_0 22 rfl rfl)
theorem dX0_reciprocal_23 : decode cX0_reciprocal 23 = .ok (.aaload, 1) := dk_50 (dk_at dksX0_reciprocal_0 23 rfl rfl)
theorem dX0_reciprocal_24 : decode cX0_reciprocal 24 = .ok (.invokestatic 200, 3) := dk_184 0 200 (dk_at dksX0_reciprocal_1 0 rfl rfl)
theorem dX0_reciprocal_27 : decode cX0_reciprocal 27 = .ok (.lstore_n 3, 1) := dk_66 (dk_at dksX0_reciprocal_1 3 rfl rfl)
theorem dX0_reciprocal_28 : decode cX0_reciprocal 28 = .ok (.lload_n 3, 1) := dk_33 (dk_at dksX0_reciprocal_1 4 rfl rfl)
theorem dX0_reciprocal_29 : decode cX0_reciprocal 29 = .ok (.ldc2_w 187, 3) := dk_20 0 187 (dk_at dksX0_reciprocal_1 5 rfl rfl)
theorem dX0_reciprocal_32 : decode cX0_reciprocal 32 = .ok (.lcmp, 1) := dk_148 (dk_at dksX0_reciprocal_1 8 rfl rfl)
theorem dX0_reciprocal_33 : decode cX0_reciprocal 33 = .ok (.ifCond .ne 7, 3) := dk_154 0 7 (dk_at dksX0_reciprocal_1 9 rfl rfl)
theorem dX0_reciprocal_36 : decode cX0_reciprocal 36 = .ok (.ldc_w 366, 3) := dk_19 1 110 (dk_at dksX0_reciprocal_1 12 rfl rfl)
theorem dX0_reciprocal_39 : decode cX0_reciprocal 39 = .ok (.ireturn, 1) := dk_172 (dk_at dksX0_reciprocal_1 15 rfl rfl)
theorem dX0_reciprocal_40 : decode cX0_reciprocal 40 = .ok (.lload_n 3, 1) := dk_33 (dk_at dksX0_reciprocal_1 16 rfl rfl)
theorem dX0_reciprocal_41 : decode cX0_reciprocal 41 = .ok (.invokestatic 370, 3) := dk_184 1 114 (dk_at dksX0_reciprocal_1 17 rfl rfl)
theorem dX0_reciprocal_44 : decode cX0_reciprocal 44 = .ok (.lstore 5, 2) := dk_55 5 (dk_at dksX0_reciprocal_1 20 rfl rfl)
theorem dX0_reciprocal_46 : decode cX0_reciprocal 46 = .ok (.lload 5, 2) := dk_22 5 (dk_at dksX0_reciprocal_1 22 rfl rfl)
theorem dX0_reciprocal_48 : decode cX0_reciprocal 48 = .ok (.invokestatic 373, 3) := dk_184 1 117 (dk_at dksX0_reciprocal_2 0 rfl rfl)
theorem dX0_reciprocal_51 : decode cX0_reciprocal 51 = .ok (.iconst 1, 1) := dk_4 (dk_at dksX0_reciprocal_2 3 rfl rfl)
theorem dX0_reciprocal_52 : decode cX0_reciprocal 52 = .ok (.if_icmp .eq 7, 3) := dk_159 0 7 (dk_at dksX0_reciprocal_2 4 rfl rfl)
theorem dX0_reciprocal_55 : decode cX0_reciprocal 55 = .ok (.ldc_w 344, 3) := dk_19 1 88 (dk_at dksX0_reciprocal_2 7 rfl rfl)
theorem dX0_reciprocal_58 : decode cX0_reciprocal 58 = .ok (.ireturn, 1) := dk_172 (dk_at dksX0_reciprocal_2 10 rfl rfl)
theorem dX0_reciprocal_59 : decode cX0_reciprocal 59 = .ok (.lload 5, 2) := dk_22 5 (dk_at dksX0_reciprocal_2 11 rfl rfl)
theorem dX0_reciprocal_61 : decode cX0_reciprocal 61 = .ok (.invokestatic 204, 3) := dk_184 0 204 (dk_at dksX0_reciprocal_2 13 rfl rfl)
theorem dX0_reciprocal_64 : decode cX0_reciprocal 64 = .ok (.bipush 32, 2) := dk_16 32 (dk_at dksX0_reciprocal_2 16 rfl rfl)
theorem dX0_reciprocal_66 : decode cX0_reciprocal 66 = .ok (.isub, 1) := dk_100 (dk_at dksX0_reciprocal_2 18 rfl rfl)
theorem dX0_reciprocal_67 : decode cX0_reciprocal 67 = .ok (.istore 7, 2) := dk_54 7 (dk_at dksX0_reciprocal_2 19 rfl rfl)
theorem dX0_reciprocal_69 : decode cX0_reciprocal 69 = .ok (.iload 7, 2) := dk_21 7 (dk_at dksX0_reciprocal_2 21 rfl rfl)
theorem dX0_reciprocal_71 : decode cX0_reciprocal 71 = .ok (.ifCond .le 12, 3) := dk_158 0 12 (dk_at dksX0_reciprocal_3 0 rfl rfl)
theorem dX0_reciprocal_74 : decode cX0_reciprocal 74 = .ok (.ldc2_w 376, 3) := dk_20 1 120 (dk_at dksX0_reciprocal_3 3 rfl rfl)
theorem dX0_reciprocal_77 : decode cX0_reciprocal 77 = .ok (.iload 7, 2) := dk_21 7 (dk_at dksX0_reciprocal_3 6 rfl rfl)
theorem dX0_reciprocal_79 : decode cX0_reciprocal 79 = .ok (.lshr, 1) := dk_123 (dk_at dksX0_reciprocal_3 8 rfl rfl)
theorem dX0_reciprocal_80 : decode cX0_reciprocal 80 = .ok (.goto 14, 3) := dk_167 0 14 (dk_at dksX0_reciprocal_3 9 rfl rfl)
theorem dX0_reciprocal_83 : decode cX0_reciprocal 83 = .ok (.ldc2_w 376, 3) := dk_20 1 120 (dk_at dksX0_reciprocal_3 12 rfl rfl)
theorem dX0_reciprocal_86 : decode cX0_reciprocal 86 = .ok (.iload 7, 2) := dk_21 7 (dk_at dksX0_reciprocal_3 15 rfl rfl)
theorem dX0_reciprocal_88 : decode cX0_reciprocal 88 = .ok (.ineg, 1) := dk_116 (dk_at dksX0_reciprocal_3 17 rfl rfl)
theorem dX0_reciprocal_89 : decode cX0_reciprocal 89 = .ok (.iconst 5, 1) := dk_8 (dk_at dksX0_reciprocal_3 18 rfl rfl)
theorem dX0_reciprocal_90 : decode cX0_reciprocal 90 = .ok (.invokestatic 378, 3) := dk_184 1 122 (dk_at dksX0_reciprocal_3 19 rfl rfl)
theorem dX0_reciprocal_93 : decode cX0_reciprocal 93 = .ok (.lshl, 1) := dk_121 (dk_at dksX0_reciprocal_3 22 rfl rfl)
theorem dX0_reciprocal_94 : decode cX0_reciprocal 94 = .ok (.lstore 8, 2) := dk_55 8 (dk_at dksX0_reciprocal_4 0 rfl rfl)
theorem dX0_reciprocal_96 : decode cX0_reciprocal 96 = .ok (.aload_n 0, 1) := dk_42 (dk_at dksX0_reciprocal_4 2 rfl rfl)
theorem dX0_reciprocal_97 : decode cX0_reciprocal 97 = .ok (.iconst 1, 1) := dk_4 (dk_at dksX0_reciprocal_4 3 rfl rfl)
theorem dX0_reciprocal_98 : decode cX0_reciprocal 98 = .ok (.iload_n 2, 1) := dk_28 (dk_at dksX0_reciprocal_4 4 rfl rfl)
theorem dX0_reciprocal_99 : decode cX0_reciprocal 99 = .ok (.aload_n 0, 1) := dk_42 (dk_at dksX0_reciprocal_4 5 rfl rfl)
theorem dX0_reciprocal_100 : decode cX0_reciprocal 100 = .ok (.lload_n 3, 1) := dk_33 (dk_at dksX0_reciprocal_4 6 rfl rfl)
theorem dX0_reciprocal_101 : decode cX0_reciprocal 101 = .ok (.lload 8, 2) := dk_22 8 (dk_at dksX0_reciprocal_4 7 rfl rfl)
theorem dX0_reciprocal_103 : decode cX0_reciprocal 103 = .ok (.invokedynamic 380, 5) := by decide +kernel
theorem dX0_reciprocal_108 : decode cX0_reciprocal 108 = .ok (.invokevirtual 280, 3) := dk_182 1 24 (dk_at dksX0_reciprocal_4 14 rfl rfl)
theorem dX0_reciprocal_111 : decode cX0_reciprocal 111 = .ok (.invokestatic 284, 3) := dk_184 1 28 (dk_at dksX0_reciprocal_4 17 rfl rfl)
theorem dX0_reciprocal_114 : decode cX0_reciprocal 114 = .ok (.ireturn, 1) := dk_172 (dk_at dksX0_reciprocal_4 20 rfl rfl)
abbrev cX0_lambda_reciprocal_11 : ByteArray := prog_1_method_74_code
def yX0_lambda_reciprocal_11 : MethodName := ⟨RX0, "lambda$reciprocal$11", "(JJ)LGameCalculator$Form;"⟩
def dkwX0_lambda_reciprocal_11_0 : List UInt8 := [42, 31, 9, 148, 156, 0, 8, 33, 117, 167, 0, 4, 33, 182, 1, 107, 176]
abbrev dktX0_lambda_reciprocal_11_0 : List UInt8 := dkwX0_lambda_reciprocal_11_0 ++ []
theorem dksX0_lambda_reciprocal_11_0 : cX0_lambda_reciprocal_11.data.toList.drop 0 = dktX0_lambda_reciprocal_11_0 := by decide +kernel
theorem dX0_lambda_reciprocal_11_0 : decode cX0_lambda_reciprocal_11 0 = .ok (.aload_n 0, 1) := dk_42 (dk_at dksX0_lambda_reciprocal_11_0 0 rfl rfl)
theorem dX0_lambda_reciprocal_11_1 : decode cX0_lambda_reciprocal_11 1 = .ok (.lload_n 1, 1) := dk_31 (dk_at dksX0_lambda_reciprocal_11_0 1 rfl rfl)
theorem dX0_lambda_reciprocal_11_2 : decode cX0_lambda_reciprocal_11 2 = .ok (.lconst 0, 1) := dk_9 (dk_at dksX0_lambda_reciprocal_11_0 2 rfl rfl)
theorem dX0_lambda_reciprocal_11_3 : decode cX0_lambda_reciprocal_11 3 = .ok (.lcmp, 1) := dk_148 (dk_at dksX0_lambda_reciprocal_11_0 3 rfl rfl)
theorem dX0_lambda_reciprocal_11_4 : decode cX0_lambda_reciprocal_11 4 = .ok (.ifCond .ge 8, 3) := dk_156 0 8 (dk_at dksX0_lambda_reciprocal_11_0 4 rfl rfl)
theorem dX0_lambda_reciprocal_11_7 : decode cX0_lambda_reciprocal_11 7 = .ok (.lload_n 3, 1) := dk_33 (dk_at dksX0_lambda_reciprocal_11_0 7 rfl rfl)
theorem dX0_lambda_reciprocal_11_8 : decode cX0_lambda_reciprocal_11 8 = .ok (.lneg, 1) := dk_117 (dk_at dksX0_lambda_reciprocal_11_0 8 rfl rfl)
theorem dX0_lambda_reciprocal_11_9 : decode cX0_lambda_reciprocal_11 9 = .ok (.goto 4, 3) := dk_167 0 4 (dk_at dksX0_lambda_reciprocal_11_0 9 rfl rfl)
theorem dX0_lambda_reciprocal_11_12 : decode cX0_lambda_reciprocal_11 12 = .ok (.lload_n 3, 1) := dk_33 (dk_at dksX0_lambda_reciprocal_11_0 12 rfl rfl)
theorem dX0_lambda_reciprocal_11_13 : decode cX0_lambda_reciprocal_11 13 = .ok (.invokevirtual 363, 3) := dk_182 1 107 (dk_at dksX0_lambda_reciprocal_11_0 13 rfl rfl)
theorem dX0_lambda_reciprocal_11_16 : decode cX0_lambda_reciprocal_11 16 = .ok (.areturn, 1) := dk_176 (dk_at dksX0_lambda_reciprocal_11_0 16 rfl rfl)
abbrev cX0_simplest : ByteArray := prog_1_method_48_code
def yX0_simplest : MethodName := ⟨RX0, "simplest", "(III)I"⟩
def dkwX0_simplest_3 : List UInt8 := [42, 4, 29, 42, 22, 4, 22, 6, 186, 1, 125, 0, 0, 182, 1, 24, 184, 1, 28, 172]
abbrev dktX0_simplest_3 : List UInt8 := dkwX0_simplest_3 ++ []
def dkwX0_simplest_2 : List UInt8 := [153, 0, 20, 22, 6, 20, 0, 187, 148, 153, 0, 11, 22, 4, 22, 6, 148, 155, 0, 7, 19, 1, 110, 172]
abbrev dktX0_simplest_2 : List UInt8 := dkwX0_simplest_2 ++ dktX0_simplest_3
def dkwX0_simplest_1 : List UInt8 := [50, 184, 0, 200, 55, 4, 42, 180, 0, 217, 28, 50, 184, 0, 200, 55, 6, 22, 4, 20, 0, 187, 148]
abbrev dktX0_simplest_1 : List UInt8 := dkwX0_simplest_1 ++ dktX0_simplest_2
def dkwX0_simplest_0 : List UInt8 := [27, 28, 184, 1, 98, 153, 0, 10, 29, 184, 0, 254, 154, 0, 7, 19, 1, 1, 172, 42, 180, 0, 217, 27]
abbrev dktX0_simplest_0 : List UInt8 := dkwX0_simplest_0 ++ dktX0_simplest_1
theorem dksX0_simplest_0 : cX0_simplest.data.toList.drop 0 = dktX0_simplest_0 := by decide +kernel
theorem dksX0_simplest_1 : cX0_simplest.data.toList.drop 24 = dktX0_simplest_1 := dk_seg dksX0_simplest_0 24 rfl rfl
theorem dksX0_simplest_2 : cX0_simplest.data.toList.drop 47 = dktX0_simplest_2 := dk_seg dksX0_simplest_1 23 rfl rfl
theorem dksX0_simplest_3 : cX0_simplest.data.toList.drop 71 = dktX0_simplest_3 := dk_seg dksX0_simplest_2 24 rfl rfl
theorem dX0_simplest_0 : decode cX0_simplest 0 = .ok (.iload_n 1, 1) := dk_27 (dk_at dksX0_simplest_0 0 rfl rfl)
theorem dX0_simplest_1 : decode cX0_simplest 1 = .ok (.iload_n 2, 1) := dk_28 (dk_at dksX0_simplest_0 1 rfl rfl)
theorem dX0_simplest_2 : decode cX0_simplest 2 = .ok (.invokestatic 354, 3) := dk_184 1 98 (dk_at dksX0_simplest_0 2 rfl rfl)
theorem dX0_simplest_5 : decode cX0_simplest 5 = .ok (.ifCond .eq 10, 3) := dk_153 0 10 (dk_at dksX0_simplest_0 5 rfl rfl)
theorem dX0_simplest_8 : decode cX0_simplest 8 = .ok (.iload_n 3, 1) := dk_29 (dk_at dksX0_simplest_0 8 rfl rfl)
theorem dX0_simplest_9 : decode cX0_simplest 9 = .ok (.invokestatic 254, 3) := dk_184 0 254 (dk_at dksX0_simplest_0 9 rfl rfl)
theorem dX0_simplest_12 : decode cX0_simplest 12 = .ok (.ifCond .ne 7, 3) := dk_154 0 7 (dk_at dksX0_simplest_0 12 rfl rfl)
theorem dX0_simplest_15 : decode cX0_simplest 15 = .ok (.ldc_w 257, 3) := dk_19 1 1 (dk_at dksX0_simplest_0 15 rfl rfl)
theorem dX0_simplest_18 : decode cX0_simplest 18 = .ok (.ireturn, 1) := dk_172 (dk_at dksX0_simplest_0 18 rfl rfl)
theorem dX0_simplest_19 : decode cX0_simplest 19 = .ok (.aload_n 0, 1) := dk_42 (dk_at dksX0_simplest_0 19 rfl rfl)
theorem dX0_simplest_20 : decode cX0_simplest 20 = .ok (.getfield 217, 3) := dk_180 0 217 (dk_at dksX0_simplest_0 20 rfl rfl)
theorem dX0_simplest_23 : decode cX0_simplest 23 = .ok (.iload_n 1, 1) := dk_27 (dk_at dksX0_simplest_0 23 rfl rfl)
theorem dX0_simplest_24 : decode cX0_simplest 24 = .ok (.aaload, 1) := dk_50 (dk_at dksX0_simplest_1 0 rfl rfl)
theorem dX0_simplest_25 : decode cX0_simplest 25 = .ok (.invokestatic 200, 3) := dk_184 0 200 (dk_at dksX0_simplest_1 1 rfl rfl)
theorem dX0_simplest_28 : decode cX0_simplest 28 = .ok (.lstore 4, 2) := dk_55 4 (dk_at dksX0_simplest_1 4 rfl rfl)
theorem dX0_simplest_30 : decode cX0_simplest 30 = .ok (.aload_n 0, 1) := dk_42 (dk_at dksX0_simplest_1 6 rfl rfl)
theorem dX0_simplest_31 : decode cX0_simplest 31 = .ok (.getfield 217, 3) := dk_180 0 217 (dk_at dksX0_simplest_1 7 rfl rfl)
theorem dX0_simplest_34 : decode cX0_simplest 34 = .ok (.iload_n 2, 1) := dk_28 (dk_at dksX0_simplest_1 10 rfl rfl)
theorem dX0_simplest_35 : decode cX0_simplest 35 = .ok (.aaload, 1) := dk_50 (dk_at dksX0_simplest_1 11 rfl rfl)
theorem dX0_simplest_36 : decode cX0_simplest 36 = .ok (.invokestatic 200, 3) := dk_184 0 200 (dk_at dksX0_simplest_1 12 rfl rfl)
theorem dX0_simplest_39 : decode cX0_simplest 39 = .ok (.lstore 6, 2) := dk_55 6 (dk_at dksX0_simplest_1 15 rfl rfl)
theorem dX0_simplest_41 : decode cX0_simplest 41 = .ok (.lload 4, 2) := dk_22 4 (dk_at dksX0_simplest_1 17 rfl rfl)
theorem dX0_simplest_43 : decode cX0_simplest 43 = .ok (.ldc2_w 187, 3) := dk_20 0 187 (dk_at dksX0_simplest_1 19 rfl rfl)
theorem dX0_simplest_46 : decode cX0_simplest 46 = .ok (.lcmp, 1) := dk_148 (dk_at dksX0_simplest_1 22 rfl rfl)
theorem dX0_simplest_47 : decode cX0_simplest 47 = .ok (.ifCond .eq 20, 3) := dk_153 0 20 (dk_at dksX0_simplest_2 0 rfl rfl)
theorem dX0_simplest_50 : decode cX0_simplest 50 = .ok (.lload 6, 2) := dk_22 6 (dk_at dksX0_simplest_2 3 rfl rfl)
theorem dX0_simplest_52 : decode cX0_simplest 52 = .ok (.ldc2_w 187, 3) := dk_20 0 187 (dk_at dksX0_simplest_2 5 rfl rfl)
theorem dX0_simplest_55 : decode cX0_simplest 55 = .ok (.lcmp, 1) := dk_148 (dk_at dksX0_simplest_2 8 rfl rfl)
theorem dX0_simplest_56 : decode cX0_simplest 56 = .ok (.ifCond .eq 11, 3) := dk_153 0 11 (dk_at dksX0_simplest_2 9 rfl rfl)
theorem dX0_simplest_59 : decode cX0_simplest 59 = .ok (.lload 4, 2) := dk_22 4 (dk_at dksX0_simplest_2 12 rfl rfl)
theorem dX0_simplest_61 : decode cX0_simplest 61 = .ok (.lload 6, 2) := dk_22 6 (dk_at dksX0_simplest_2 14 rfl rfl)
theorem dX0_simplest_63 : decode cX0_simplest 63 = .ok (.lcmp, 1) := dk_148 (dk_at dksX0_simplest_2 16 rfl rfl)
theorem dX0_simplest_64 : decode cX0_simplest 64 = .ok (.ifCond .lt 7, 3) := dk_155 0 7 (dk_at dksX0_simplest_2 17 rfl rfl)
theorem dX0_simplest_67 : decode cX0_simplest 67 = .ok (.ldc_w 366, 3) := dk_19 1 110 (dk_at dksX0_simplest_2 20 rfl rfl)
theorem dX0_simplest_70 : decode cX0_simplest 70 = .ok (.ireturn, 1) := dk_172 (dk_at dksX0_simplest_2 23 rfl rfl)
theorem dX0_simplest_71 : decode cX0_simplest 71 = .ok (.aload_n 0, 1) := dk_42 (dk_at dksX0_simplest_3 0 rfl rfl)
theorem dX0_simplest_72 : decode cX0_simplest 72 = .ok (.iconst 1, 1) := dk_4 (dk_at dksX0_simplest_3 1 rfl rfl)
theorem dX0_simplest_73 : decode cX0_simplest 73 = .ok (.iload_n 3, 1) := dk_29 (dk_at dksX0_simplest_3 2 rfl rfl)
theorem dX0_simplest_74 : decode cX0_simplest 74 = .ok (.aload_n 0, 1) := dk_42 (dk_at dksX0_simplest_3 3 rfl rfl)
theorem dX0_simplest_75 : decode cX0_simplest 75 = .ok (.lload 4, 2) := dk_22 4 (dk_at dksX0_simplest_3 4 rfl rfl)
theorem dX0_simplest_77 : decode cX0_simplest 77 = .ok (.lload 6, 2) := dk_22 6 (dk_at dksX0_simplest_3 6 rfl rfl)
theorem dX0_simplest_79 : decode cX0_simplest 79 = .ok (.invokedynamic 381, 5) := by decide +kernel
theorem dX0_simplest_84 : decode cX0_simplest 84 = .ok (.invokevirtual 280, 3) := dk_182 1 24 (dk_at dksX0_simplest_3 13 rfl rfl)
theorem dX0_simplest_87 : decode cX0_simplest 87 = .ok (.invokestatic 284, 3) := dk_184 1 28 (dk_at dksX0_simplest_3 16 rfl rfl)
theorem dX0_simplest_90 : decode cX0_simplest 90 = .ok (.ireturn, 1) := dk_172 (dk_at dksX0_simplest_3 19 rfl rfl)
abbrev cX0_lambda_simplest_12 : ByteArray := prog_1_method_73_code
def yX0_lambda_simplest_12 : MethodName := ⟨RX0, "lambda$simplest$12", "(JJ)LGameCalculator$Form;"⟩
def dkwX0_lambda_simplest_12_0 : List UInt8 := [42, 31, 33, 182, 0, 183, 176]
abbrev dktX0_lambda_simplest_12_0 : List UInt8 := dkwX0_lambda_simplest_12_0 ++ []
theorem dksX0_lambda_simplest_12_0 : cX0_lambda_simplest_12.data.toList.drop 0 = dktX0_lambda_simplest_12_0 := by decide +kernel
theorem dX0_lambda_simplest_12_0 : decode cX0_lambda_simplest_12 0 = .ok (.aload_n 0, 1) := dk_42 (dk_at dksX0_lambda_simplest_12_0 0 rfl rfl)
theorem dX0_lambda_simplest_12_1 : decode cX0_lambda_simplest_12 1 = .ok (.lload_n 1, 1) := dk_31 (dk_at dksX0_lambda_simplest_12_0 1 rfl rfl)
theorem dX0_lambda_simplest_12_2 : decode cX0_lambda_simplest_12 2 = .ok (.lload_n 3, 1) := dk_33 (dk_at dksX0_lambda_simplest_12_0 2 rfl rfl)
theorem dX0_lambda_simplest_12_3 : decode cX0_lambda_simplest_12 3 = .ok (.invokevirtual 183, 3) := dk_182 0 183 (dk_at dksX0_lambda_simplest_12_0 3 rfl rfl)
theorem dX0_lambda_simplest_12_6 : decode cX0_lambda_simplest_12 6 = .ok (.areturn, 1) := dk_176 (dk_at dksX0_lambda_simplest_12_0 6 rfl rfl)
abbrev cX0_appendSign : ByteArray := prog_1_method_49_code
def yX0_appendSign : MethodName := ⟨RX0, "appendSign", "(I)I"⟩
def dkwX0_appendSign_2 : List UInt8 := [182, 0, 172, 42, 89, 180, 1, 126, 4, 96, 181, 1, 126, 42, 180, 1, 126, 172]
abbrev dktX0_appendSign_2 : List UInt8 := dkwX0_appendSign_2 ++ []
def dkwX0_appendSign_1 : List UInt8 := [19, 1, 42, 172, 42, 180, 0, 236, 42, 180, 1, 126, 27, 4, 160, 0, 7, 4, 167, 0, 4, 3]
abbrev dktX0_appendSign_1 : List UInt8 := dkwX0_appendSign_1 ++ dktX0_appendSign_2
def dkwX0_appendSign_0 : List UInt8 := [27, 3, 4, 184, 0, 250, 154, 0, 7, 19, 1, 1, 172, 42, 180, 1, 126, 16, 31, 160, 0, 7]
abbrev dktX0_appendSign_0 : List UInt8 := dkwX0_appendSign_0 ++ dktX0_appendSign_1
theorem dksX0_appendSign_0 : cX0_appendSign.data.toList.drop 0 = dktX0_appendSign_0 := by decide +kernel
theorem dksX0_appendSign_1 : cX0_appendSign.data.toList.drop 22 = dktX0_appendSign_1 := dk_seg dksX0_appendSign_0 22 rfl rfl
theorem dksX0_appendSign_2 : cX0_appendSign.data.toList.drop 44 = dktX0_appendSign_2 := dk_seg dksX0_appendSign_1 22 rfl rfl
theorem dX0_appendSign_0 : decode cX0_appendSign 0 = .ok (.iload_n 1, 1) := dk_27 (dk_at dksX0_appendSign_0 0 rfl rfl)
theorem dX0_appendSign_1 : decode cX0_appendSign 1 = .ok (.iconst 0, 1) := dk_3 (dk_at dksX0_appendSign_0 1 rfl rfl)
theorem dX0_appendSign_2 : decode cX0_appendSign 2 = .ok (.iconst 1, 1) := dk_4 (dk_at dksX0_appendSign_0 2 rfl rfl)
theorem dX0_appendSign_3 : decode cX0_appendSign 3 = .ok (.invokestatic 250, 3) := dk_184 0 250 (dk_at dksX0_appendSign_0 3 rfl rfl)
theorem dX0_appendSign_6 : decode cX0_appendSign 6 = .ok (.ifCond .ne 7, 3) := dk_154 0 7 (dk_at dksX0_appendSign_0 6 rfl rfl)
theorem dX0_appendSign_9 : decode cX0_appendSign 9 = .ok (.ldc_w 257, 3) := dk_19 1 1 (dk_at dksX0_appendSign_0 9 rfl rfl)
theorem dX0_appendSign_12 : decode cX0_appendSign 12 = .ok (.ireturn, 1) := dk_172 (dk_at dksX0_appendSign_0 12 rfl rfl)
theorem dX0_appendSign_13 : decode cX0_appendSign 13 = .ok (.aload_n 0, 1) := dk_42 (dk_at dksX0_appendSign_0 13 rfl rfl)
theorem dX0_appendSign_14 : decode cX0_appendSign 14 = .ok (.getfield 382, 3) := dk_180 1 126 (dk_at dksX0_appendSign_0 14 rfl rfl)
theorem dX0_appendSign_17 : decode cX0_appendSign 17 = .ok (.bipush 31, 2) := dk_16 31 (dk_at dksX0_appendSign_0 17 rfl rfl)
theorem dX0_appendSign_19 : decode cX0_appendSign 19 = .ok (.if_icmp .ne 7, 3) := dk_160 0 7 (dk_at dksX0_appendSign_0 19 rfl rfl)
theorem dX0_appendSign_22 : decode cX0_appendSign 22 = .ok (.ldc_w 298, 3) := dk_19 1 42 (dk_at dksX0_appendSign_1 0 rfl rfl)
theorem dX0_appendSign_25 : decode cX0_appendSign 25 = .ok (.ireturn, 1) := dk_172 (dk_at dksX0_appendSign_1 3 rfl rfl)
theorem dX0_appendSign_26 : decode cX0_appendSign 26 = .ok (.aload_n 0, 1) := dk_42 (dk_at dksX0_appendSign_1 4 rfl rfl)
theorem dX0_appendSign_27 : decode cX0_appendSign 27 = .ok (.getfield 236, 3) := dk_180 0 236 (dk_at dksX0_appendSign_1 5 rfl rfl)
theorem dX0_appendSign_30 : decode cX0_appendSign 30 = .ok (.aload_n 0, 1) := dk_42 (dk_at dksX0_appendSign_1 8 rfl rfl)
theorem dX0_appendSign_31 : decode cX0_appendSign 31 = .ok (.getfield 382, 3) := dk_180 1 126 (dk_at dksX0_appendSign_1 9 rfl rfl)
theorem dX0_appendSign_34 : decode cX0_appendSign 34 = .ok (.iload_n 1, 1) := dk_27 (dk_at dksX0_appendSign_1 12 rfl rfl)
theorem dX0_appendSign_35 : decode cX0_appendSign 35 = .ok (.iconst 1, 1) := dk_4 (dk_at dksX0_appendSign_1 13 rfl rfl)
theorem dX0_appendSign_36 : decode cX0_appendSign 36 = .ok (.if_icmp .ne 7, 3) := dk_160 0 7 (dk_at dksX0_appendSign_1 14 rfl rfl)
theorem dX0_appendSign_39 : decode cX0_appendSign 39 = .ok (.iconst 1, 1) := dk_4 (dk_at dksX0_appendSign_1 17 rfl rfl)
theorem dX0_appendSign_40 : decode cX0_appendSign 40 = .ok (.goto 4, 3) := dk_167 0 4 (dk_at dksX0_appendSign_1 18 rfl rfl)
theorem dX0_appendSign_43 : decode cX0_appendSign 43 = .ok (.iconst 0, 1) := dk_3 (dk_at dksX0_appendSign_1 21 rfl rfl)
theorem dX0_appendSign_44 : decode cX0_appendSign 44 = .ok (.invokevirtual 172, 3) := dk_182 0 172 (dk_at dksX0_appendSign_2 0 rfl rfl)
theorem dX0_appendSign_47 : decode cX0_appendSign 47 = .ok (.aload_n 0, 1) := dk_42 (dk_at dksX0_appendSign_2 3 rfl rfl)
theorem dX0_appendSign_48 : decode cX0_appendSign 48 = .ok (.dup, 1) := dk_89 (dk_at dksX0_appendSign_2 4 rfl rfl)
theorem dX0_appendSign_49 : decode cX0_appendSign 49 = .ok (.getfield 382, 3) := dk_180 1 126 (dk_at dksX0_appendSign_2 5 rfl rfl)
theorem dX0_appendSign_52 : decode cX0_appendSign 52 = .ok (.iconst 1, 1) := dk_4 (dk_at dksX0_appendSign_2 8 rfl rfl)
theorem dX0_appendSign_53 : decode cX0_appendSign 53 = .ok (.iadd, 1) := dk_96 (dk_at dksX0_appendSign_2 9 rfl rfl)
theorem dX0_appendSign_54 : decode cX0_appendSign 54 = .ok (.putfield 382, 3) := dk_181 1 126 (dk_at dksX0_appendSign_2 10 rfl rfl)
theorem dX0_appendSign_57 : decode cX0_appendSign 57 = .ok (.aload_n 0, 1) := dk_42 (dk_at dksX0_appendSign_2 13 rfl rfl)
theorem dX0_appendSign_58 : decode cX0_appendSign 58 = .ok (.getfield 382, 3) := dk_180 1 126 (dk_at dksX0_appendSign_2 14 rfl rfl)
theorem dX0_appendSign_61 : decode cX0_appendSign 61 = .ok (.ireturn, 1) := dk_172 (dk_at dksX0_appendSign_2 17 rfl rfl)
abbrev cX0_makeSigns : ByteArray := prog_1_method_50_code
def yX0_makeSigns : MethodName := ⟨RX0, "makeSigns", "(I)I"⟩
def dkwX0_makeSigns_1 : List UInt8 := [42, 3, 181, 1, 126, 28, 184, 1, 28, 172]
abbrev dktX0_makeSigns_1 : List UInt8 := dkwX0_makeSigns_1 ++ []
def dkwX0_makeSigns_0 : List UInt8 := [42, 4, 27, 42, 186, 1, 129, 0, 0, 182, 1, 24, 61, 28, 158, 0, 15, 42, 180, 0, 236, 182, 1, 130]
abbrev dktX0_makeSigns_0 : List UInt8 := dkwX0_makeSigns_0 ++ dktX0_makeSigns_1
theorem dksX0_makeSigns_0 : cX0_makeSigns.data.toList.drop 0 = dktX0_makeSigns_0 := by decide +kernel
theorem dksX0_makeSigns_1 : cX0_makeSigns.data.toList.drop 24 = dktX0_makeSigns_1 := dk_seg dksX0_makeSigns_0 24 rfl rfl
theorem dX0_makeSigns_0 : decode cX0_makeSigns 0 = .ok (.aload_n 0, 1) := dk_42 (dk_at dksX0_makeSigns_0 0 rfl rfl)
theorem dX0_makeSigns_1 : decode cX0_makeSigns 1 = .ok (.iconst 1, 1) := dk_4 (dk_at dksX0_makeSigns_0 1 rfl rfl)
theorem dX0_makeSigns_2 : decode cX0_makeSigns 2 = .ok (.iload_n 1, 1) := dk_27 (dk_at dksX0_makeSigns_0 2 rfl rfl)
theorem dX0_makeSigns_3 : decode cX0_makeSigns 3 = .ok (.aload_n 0, 1) := dk_42 (dk_at dksX0_makeSigns_0 3 rfl rfl)
theorem dX0_makeSigns_4 : decode cX0_makeSigns 4 = .ok (.invokedynamic 385, 5) := by decide +kernel
theorem dX0_makeSigns_9 : decode cX0_makeSigns 9 = .ok (.invokevirtual 280, 3) := dk_182 1 24 (dk_at dksX0_makeSigns_0 9 rfl rfl)
theorem dX0_makeSigns_12 : decode cX0_makeSigns 12 = .ok (.istore_n 2, 1) := dk_61 (dk_at dksX0_makeSigns_0 12 rfl rfl)
theorem dX0_makeSigns_13 : decode cX0_makeSigns 13 = .ok (.iload_n 2, 1) := dk_28 (dk_at dksX0_makeSigns_0 13 rfl rfl)
theorem dX0_makeSigns_14 : decode cX0_makeSigns 14 = .ok (.ifCond .le 15, 3) := dk_158 0 15 (dk_at dksX0_makeSigns_0 14 rfl rfl)
theorem dX0_makeSigns_17 : decode cX0_makeSigns 17 = .ok (.aload_n 0, 1) := dk_42 (dk_at dksX0_makeSigns_0 17 rfl rfl)
theorem dX0_makeSigns_18 : decode cX0_makeSigns 18 = .ok (.getfield 236, 3) := dk_180 0 236 (dk_at dksX0_makeSigns_0 18 rfl rfl)
theorem dX0_makeSigns_21 : decode cX0_makeSigns 21 = .ok (.invokevirtual 386, 3) := dk_182 1 130 (dk_at dksX0_makeSigns_0 21 rfl rfl)
theorem dX0_makeSigns_24 : decode cX0_makeSigns 24 = .ok (.aload_n 0, 1) := dk_42 (dk_at dksX0_makeSigns_1 0 rfl rfl)
theorem dX0_makeSigns_25 : decode cX0_makeSigns 25 = .ok (.iconst 0, 1) := dk_3 (dk_at dksX0_makeSigns_1 1 rfl rfl)
theorem dX0_makeSigns_26 : decode cX0_makeSigns 26 = .ok (.putfield 382, 3) := dk_181 1 126 (dk_at dksX0_makeSigns_1 2 rfl rfl)
theorem dX0_makeSigns_29 : decode cX0_makeSigns 29 = .ok (.iload_n 2, 1) := dk_28 (dk_at dksX0_makeSigns_1 5 rfl rfl)
theorem dX0_makeSigns_30 : decode cX0_makeSigns 30 = .ok (.invokestatic 284, 3) := dk_184 1 28 (dk_at dksX0_makeSigns_1 6 rfl rfl)
theorem dX0_makeSigns_33 : decode cX0_makeSigns 33 = .ok (.ireturn, 1) := dk_172 (dk_at dksX0_makeSigns_1 9 rfl rfl)
abbrev cX0_lambda_makeSigns_13 : ByteArray := prog_1_method_72_code
def yX0_lambda_makeSigns_13 : MethodName := ⟨RX0, "lambda$makeSigns$13", "()LGameCalculator$Form;"⟩
def dkwX0_lambda_makeSigns_13_0 : List UInt8 := [42, 42, 180, 0, 236, 42, 180, 1, 126, 182, 0, 179, 176]
abbrev dktX0_lambda_makeSigns_13_0 : List UInt8 := dkwX0_lambda_makeSigns_13_0 ++ []
theorem dksX0_lambda_makeSigns_13_0 : cX0_lambda_makeSigns_13.data.toList.drop 0 = dktX0_lambda_makeSigns_13_0 := by decide +kernel
theorem dX0_lambda_makeSigns_13_0 : decode cX0_lambda_makeSigns_13 0 = .ok (.aload_n 0, 1) := dk_42 (dk_at dksX0_lambda_makeSigns_13_0 0 rfl rfl)
theorem dX0_lambda_makeSigns_13_1 : decode cX0_lambda_makeSigns_13 1 = .ok (.aload_n 0, 1) := dk_42 (dk_at dksX0_lambda_makeSigns_13_0 1 rfl rfl)
theorem dX0_lambda_makeSigns_13_2 : decode cX0_lambda_makeSigns_13 2 = .ok (.getfield 236, 3) := dk_180 0 236 (dk_at dksX0_lambda_makeSigns_13_0 2 rfl rfl)
theorem dX0_lambda_makeSigns_13_5 : decode cX0_lambda_makeSigns_13 5 = .ok (.aload_n 0, 1) := dk_42 (dk_at dksX0_lambda_makeSigns_13_0 5 rfl rfl)
theorem dX0_lambda_makeSigns_13_6 : decode cX0_lambda_makeSigns_13 6 = .ok (.getfield 382, 3) := dk_180 1 126 (dk_at dksX0_lambda_makeSigns_13_0 6 rfl rfl)
theorem dX0_lambda_makeSigns_13_9 : decode cX0_lambda_makeSigns_13 9 = .ok (.invokevirtual 179, 3) := dk_182 0 179 (dk_at dksX0_lambda_makeSigns_13_0 9 rfl rfl)
theorem dX0_lambda_makeSigns_13_12 : decode cX0_lambda_makeSigns_13 12 = .ok (.areturn, 1) := dk_176 (dk_at dksX0_lambda_makeSigns_13_0 12 rfl rfl)
abbrev cX0_sign : ByteArray := prog_1_method_51_code
def yX0_sign : MethodName := ⟨RX0, "sign", "(II)I"⟩
def dkwX0_sign_5 : List UInt8 := [172]
abbrev dktX0_sign_5 : List UInt8 := dkwX0_sign_5 ++ []
def dkwX0_sign_4 : List UInt8 := [154, 0, 9, 19, 1, 88, 167, 0, 18, 25, 5, 180, 0, 163, 33, 148, 156, 0, 7, 4, 167, 0, 4, 3]
abbrev dktX0_sign_4 : List UInt8 := dkwX0_sign_4 ++ dktX0_sign_5
def dkwX0_sign_3 : List UInt8 := [33, 148, 156, 0, 7, 4, 167, 0, 4, 3, 182, 0, 175, 167, 255, 217, 25, 5, 180, 0, 163, 33, 148]
abbrev dktX0_sign_3 : List UInt8 := dkwX0_sign_3 ++ dktX0_sign_4
def dkwX0_sign_2 : List UInt8 := [180, 0, 163, 33, 148, 153, 0, 35, 25, 5, 180, 0, 171, 28, 162, 0, 26, 25, 5, 25, 5, 180, 0, 163]
abbrev dktX0_sign_2 : List UInt8 := dkwX0_sign_2 ++ dktX0_sign_3
def dkwX0_sign_1 : List UInt8 := [66, 33, 20, 0, 187, 148, 154, 0, 7, 19, 1, 110, 172, 187, 0, 160, 89, 183, 0, 162, 58, 5, 25, 5]
abbrev dktX0_sign_1 : List UInt8 := dkwX0_sign_1 ++ dktX0_sign_2
def dkwX0_sign_0 : List UInt8 := [27, 184, 0, 254, 153, 0, 7, 28, 156, 0, 7, 19, 1, 1, 172, 42, 180, 0, 217, 27, 50, 184, 0, 200]
abbrev dktX0_sign_0 : List UInt8 := dkwX0_sign_0 ++ dktX0_sign_1
theorem dksX0_sign_0 : cX0_sign.data.toList.drop 0 = dktX0_sign_0 := by decide +kernel
theorem dksX0_sign_1 : cX0_sign.data.toList.drop 24 = dktX0_sign_1 := dk_seg dksX0_sign_0 24 rfl rfl
theorem dksX0_sign_2 : cX0_sign.data.toList.drop 48 = dktX0_sign_2 := dk_seg dksX0_sign_1 24 rfl rfl
theorem dksX0_sign_3 : cX0_sign.data.toList.drop 72 = dktX0_sign_3 := dk_seg dksX0_sign_2 24 rfl rfl
theorem dksX0_sign_4 : cX0_sign.data.toList.drop 95 = dktX0_sign_4 := dk_seg dksX0_sign_3 23 rfl rfl
theorem dksX0_sign_5 : cX0_sign.data.toList.drop 119 = dktX0_sign_5 := dk_seg dksX0_sign_4 24 rfl rfl
theorem dX0_sign_0 : decode cX0_sign 0 = .ok (.iload_n 1, 1) := dk_27 (dk_at dksX0_sign_0 0 rfl rfl)
theorem dX0_sign_1 : decode cX0_sign 1 = .ok (.invokestatic 254, 3) := dk_184 0 254 (dk_at dksX0_sign_0 1 rfl rfl)
theorem dX0_sign_4 : decode cX0_sign 4 = .ok (.ifCond .eq 7, 3) := dk_153 0 7 (dk_at dksX0_sign_0 4 rfl rfl)
theorem dX0_sign_7 : decode cX0_sign 7 = .ok (.iload_n 2, 1) := dk_28 (dk_at dksX0_sign_0 7 rfl rfl)
theorem dX0_sign_8 : decode cX0_sign 8 = .ok (.ifCond .ge 7, 3) := dk_156 0 7 (dk_at dksX0_sign_0 8 rfl rfl)
theorem dX0_sign_11 : decode cX0_sign 11 = .ok (.ldc_w 257, 3) := dk_19 1 1 (dk_at dksX0_sign_0 11 rfl rfl)
theorem dX0_sign_14 : decode cX0_sign 14 = .ok (.ireturn, 1) := dk_172 (dk_at dksX0_sign_0 14 rfl rfl)
theorem dX0_sign_15 : decode cX0_sign 15 = .ok (.aload_n 0, 1) := dk_42 (dk_at dksX0_sign_0 15 rfl rfl)
theorem dX0_sign_16 : decode cX0_sign 16 = .ok (.getfield 217, 3) := dk_180 0 217 (dk_at dksX0_sign_0 16 rfl rfl)
theorem dX0_sign_19 : decode cX0_sign 19 = .ok (.iload_n 1, 1) := dk_27 (dk_at dksX0_sign_0 19 rfl rfl)
theorem dX0_sign_20 : decode cX0_sign 20 = .ok (.aaload, 1) := dk_50 (dk_at dksX0_sign_0 20 rfl rfl)
theorem dX0_sign_21 : decode cX0_sign 21 = .ok (.invokestatic 200, 3) := dk_184 0 200 (dk_at dksX0_sign_0 21 rfl rfl)
theorem dX0_sign_24 : decode cX0_sign 24 = .ok (.lstore_n 3, 1) := dk_66 (dk_at dksX0_sign_1 0 rfl rfl)
theorem dX0_sign_25 : decode cX0_sign 25 = .ok (.lload_n 3, 1) := dk_33 (dk_at dksX0_sign_1 1 rfl rfl)
theorem dX0_sign_26 : decode cX0_sign 26 = .ok (.ldc2_w 187, 3) := dk_20 0 187 (dk_at dksX0_sign_1 2 rfl rfl)
theorem dX0_sign_29 : decode cX0_sign 29 = .ok (.lcmp, 1) := dk_148 (dk_at dksX0_sign_1 5 rfl rfl)
theorem dX0_sign_30 : decode cX0_sign 30 = .ok (.ifCond .ne 7, 3) := dk_154 0 7 (dk_at dksX0_sign_1 6 rfl rfl)
theorem dX0_sign_33 : decode cX0_sign 33 = .ok (.ldc_w 366, 3) := dk_19 1 110 (dk_at dksX0_sign_1 9 rfl rfl)
theorem dX0_sign_36 : decode cX0_sign 36 = .ok (.ireturn, 1) := dk_172 (dk_at dksX0_sign_1 12 rfl rfl)
theorem dX0_sign_37 : decode cX0_sign 37 = .ok (.new 160, 3) := dk_187 0 160 (dk_at dksX0_sign_1 13 rfl rfl)
theorem dX0_sign_40 : decode cX0_sign 40 = .ok (.dup, 1) := dk_89 (dk_at dksX0_sign_1 16 rfl rfl)
theorem dX0_sign_41 : decode cX0_sign 41 = .ok (.invokespecial 162, 3) := dk_183 0 162 (dk_at dksX0_sign_1 17 rfl rfl)
theorem dX0_sign_44 : decode cX0_sign 44 = .ok (.astore 5, 2) := dk_58 5 (dk_at dksX0_sign_1 20 rfl rfl)
theorem dX0_sign_46 : decode cX0_sign 46 = .ok (.aload 5, 2) := dk_25 5 (dk_at dksX0_sign_1 22 rfl rfl)
theorem dX0_sign_48 : decode cX0_sign 48 = .ok (.getfield 163, 3) := dk_180 0 163 (dk_at dksX0_sign_2 0 rfl rfl)
theorem dX0_sign_51 : decode cX0_sign 51 = .ok (.lload_n 3, 1) := dk_33 (dk_at dksX0_sign_2 3 rfl rfl)
theorem dX0_sign_52 : decode cX0_sign 52 = .ok (.lcmp, 1) := dk_148 (dk_at dksX0_sign_2 4 rfl rfl)
theorem dX0_sign_53 : decode cX0_sign 53 = .ok (.ifCond .eq 35, 3) := dk_153 0 35 (dk_at dksX0_sign_2 5 rfl rfl)
theorem dX0_sign_56 : decode cX0_sign 56 = .ok (.aload 5, 2) := dk_25 5 (dk_at dksX0_sign_2 8 rfl rfl)
theorem dX0_sign_58 : decode cX0_sign 58 = .ok (.getfield 171, 3) := dk_180 0 171 (dk_at dksX0_sign_2 10 rfl rfl)
theorem dX0_sign_61 : decode cX0_sign 61 = .ok (.iload_n 2, 1) := dk_28 (dk_at dksX0_sign_2 13 rfl rfl)
theorem dX0_sign_62 : decode cX0_sign 62 = .ok (.if_icmp .ge 26, 3) := dk_162 0 26 (dk_at dksX0_sign_2 14 rfl rfl)
theorem dX0_sign_65 : decode cX0_sign 65 = .ok (.aload 5, 2) := dk_25 5 (dk_at dksX0_sign_2 17 rfl rfl)
theorem dX0_sign_67 : decode cX0_sign 67 = .ok (.aload 5, 2) := dk_25 5 (dk_at dksX0_sign_2 19 rfl rfl)
theorem dX0_sign_69 : decode cX0_sign 69 = .ok (.getfield 163, 3) := dk_180 0 163 (dk_at dksX0_sign_2 21 rfl rfl)
theorem dX0_sign_72 : decode cX0_sign 72 = .ok (.lload_n 3, 1) := dk_33 (dk_at dksX0_sign_3 0 rfl rfl)
theorem dX0_sign_73 : decode cX0_sign 73 = .ok (.lcmp, 1) := dk_148 (dk_at dksX0_sign_3 1 rfl rfl)
theorem dX0_sign_74 : decode cX0_sign 74 = .ok (.ifCond .ge 7, 3) := dk_156 0 7 (dk_at dksX0_sign_3 2 rfl rfl)
theorem dX0_sign_77 : decode cX0_sign 77 = .ok (.iconst 1, 1) := dk_4 (dk_at dksX0_sign_3 5 rfl rfl)
theorem dX0_sign_78 : decode cX0_sign 78 = .ok (.goto 4, 3) := dk_167 0 4 (dk_at dksX0_sign_3 6 rfl rfl)
theorem dX0_sign_81 : decode cX0_sign 81 = .ok (.iconst 0, 1) := dk_3 (dk_at dksX0_sign_3 9 rfl rfl)
theorem dX0_sign_82 : decode cX0_sign 82 = .ok (.invokevirtual 175, 3) := dk_182 0 175 (dk_at dksX0_sign_3 10 rfl rfl)
theorem dX0_sign_85 : decode cX0_sign 85 = .ok (.goto (-39), 3) := dk_167 255 217 (dk_at dksX0_sign_3 13 rfl rfl)
theorem dX0_sign_88 : decode cX0_sign 88 = .ok (.aload 5, 2) := dk_25 5 (dk_at dksX0_sign_3 16 rfl rfl)
theorem dX0_sign_90 : decode cX0_sign 90 = .ok (.getfield 163, 3) := dk_180 0 163 (dk_at dksX0_sign_3 18 rfl rfl)
theorem dX0_sign_93 : decode cX0_sign 93 = .ok (.lload_n 3, 1) := dk_33 (dk_at dksX0_sign_3 21 rfl rfl)
theorem dX0_sign_94 : decode cX0_sign 94 = .ok (.lcmp, 1) := dk_148 (dk_at dksX0_sign_3 22 rfl rfl)
theorem dX0_sign_95 : decode cX0_sign 95 = .ok (.ifCond .ne 9, 3) := dk_154 0 9 (dk_at dksX0_sign_4 0 rfl rfl)
theorem dX0_sign_98 : decode cX0_sign 98 = .ok (.ldc_w 344, 3) := dk_19 1 88 (dk_at dksX0_sign_4 3 rfl rfl)
theorem dX0_sign_101 : decode cX0_sign 101 = .ok (.goto 18, 3) := dk_167 0 18 (dk_at dksX0_sign_4 6 rfl rfl)
theorem dX0_sign_104 : decode cX0_sign 104 = .ok (.aload 5, 2) := dk_25 5 (dk_at dksX0_sign_4 9 rfl rfl)
theorem dX0_sign_106 : decode cX0_sign 106 = .ok (.getfield 163, 3) := dk_180 0 163 (dk_at dksX0_sign_4 11 rfl rfl)
theorem dX0_sign_109 : decode cX0_sign 109 = .ok (.lload_n 3, 1) := dk_33 (dk_at dksX0_sign_4 14 rfl rfl)
theorem dX0_sign_110 : decode cX0_sign 110 = .ok (.lcmp, 1) := dk_148 (dk_at dksX0_sign_4 15 rfl rfl)
theorem dX0_sign_111 : decode cX0_sign 111 = .ok (.ifCond .ge 7, 3) := dk_156 0 7 (dk_at dksX0_sign_4 16 rfl rfl)
theorem dX0_sign_114 : decode cX0_sign 114 = .ok (.iconst 1, 1) := dk_4 (dk_at dksX0_sign_4 19 rfl rfl)
theorem dX0_sign_115 : decode cX0_sign 115 = .ok (.goto 4, 3) := dk_167 0 4 (dk_at dksX0_sign_4 20 rfl rfl)
theorem dX0_sign_118 : decode cX0_sign 118 = .ok (.iconst 0, 1) := dk_3 (dk_at dksX0_sign_4 23 rfl rfl)
theorem dX0_sign_119 : decode cX0_sign 119 = .ok (.ireturn, 1) := dk_172 (dk_at dksX0_sign_5 0 rfl rfl)
abbrev cX0_appendCharacter : ByteArray := prog_1_method_52_code
def yX0_appendCharacter : MethodName := ⟨RX0, "appendCharacter", "(I)I"⟩
def dkwX0_appendCharacter_2 : List UInt8 := [172]
abbrev dktX0_appendCharacter_2 : List UInt8 := dkwX0_appendCharacter_2 ++ []
def dkwX0_appendCharacter_1 : List UInt8 := [160, 0, 7, 19, 1, 42, 172, 42, 180, 0, 243, 27, 146, 182, 1, 134, 87, 42, 180, 0, 243, 182, 1, 131]
abbrev dktX0_appendCharacter_1 : List UInt8 := dkwX0_appendCharacter_1 ++ dktX0_appendCharacter_2
def dkwX0_appendCharacter_0 : List UInt8 := [27, 4, 17, 0, 255, 184, 0, 250, 154, 0, 7, 19, 1, 1, 172, 42, 180, 0, 243, 182, 1, 131, 16, 80]
abbrev dktX0_appendCharacter_0 : List UInt8 := dkwX0_appendCharacter_0 ++ dktX0_appendCharacter_1
theorem dksX0_appendCharacter_0 : cX0_appendCharacter.data.toList.drop 0 = dktX0_appendCharacter_0 := by decide +kernel
theorem dksX0_appendCharacter_1 : cX0_appendCharacter.data.toList.drop 24 = dktX0_appendCharacter_1 := dk_seg dksX0_appendCharacter_0 24 rfl rfl
theorem dksX0_appendCharacter_2 : cX0_appendCharacter.data.toList.drop 48 = dktX0_appendCharacter_2 := dk_seg dksX0_appendCharacter_1 24 rfl rfl
theorem dX0_appendCharacter_0 : decode cX0_appendCharacter 0 = .ok (.iload_n 1, 1) := dk_27 (dk_at dksX0_appendCharacter_0 0 rfl rfl)
theorem dX0_appendCharacter_1 : decode cX0_appendCharacter 1 = .ok (.iconst 1, 1) := dk_4 (dk_at dksX0_appendCharacter_0 1 rfl rfl)
theorem dX0_appendCharacter_2 : decode cX0_appendCharacter 2 = .ok (.sipush 255, 3) := dk_17 0 255 (dk_at dksX0_appendCharacter_0 2 rfl rfl)
theorem dX0_appendCharacter_5 : decode cX0_appendCharacter 5 = .ok (.invokestatic 250, 3) := dk_184 0 250 (dk_at dksX0_appendCharacter_0 5 rfl rfl)
theorem dX0_appendCharacter_8 : decode cX0_appendCharacter 8 = .ok (.ifCond .ne 7, 3) := dk_154 0 7 (dk_at dksX0_appendCharacter_0 8 rfl rfl)
theorem dX0_appendCharacter_11 : decode cX0_appendCharacter 11 = .ok (.ldc_w 257, 3) := dk_19 1 1 (dk_at dksX0_appendCharacter_0 11 rfl rfl)
theorem dX0_appendCharacter_14 : decode cX0_appendCharacter 14 = .ok (.ireturn, 1) := dk_172 (dk_at dksX0_appendCharacter_0 14 rfl rfl)
theorem dX0_appendCharacter_15 : decode cX0_appendCharacter 15 = .ok (.aload_n 0, 1) := dk_42 (dk_at dksX0_appendCharacter_0 15 rfl rfl)
theorem dX0_appendCharacter_16 : decode cX0_appendCharacter 16 = .ok (.getfield 243, 3) := dk_180 0 243 (dk_at dksX0_appendCharacter_0 16 rfl rfl)
theorem dX0_appendCharacter_19 : decode cX0_appendCharacter 19 = .ok (.invokevirtual 387, 3) := dk_182 1 131 (dk_at dksX0_appendCharacter_0 19 rfl rfl)
theorem dX0_appendCharacter_22 : decode cX0_appendCharacter 22 = .ok (.bipush 80, 2) := dk_16 80 (dk_at dksX0_appendCharacter_0 22 rfl rfl)
theorem dX0_appendCharacter_24 : decode cX0_appendCharacter 24 = .ok (.if_icmp .ne 7, 3) := dk_160 0 7 (dk_at dksX0_appendCharacter_1 0 rfl rfl)
theorem dX0_appendCharacter_27 : decode cX0_appendCharacter 27 = .ok (.ldc_w 298, 3) := dk_19 1 42 (dk_at dksX0_appendCharacter_1 3 rfl rfl)
theorem dX0_appendCharacter_30 : decode cX0_appendCharacter 30 = .ok (.ireturn, 1) := dk_172 (dk_at dksX0_appendCharacter_1 6 rfl rfl)
theorem dX0_appendCharacter_31 : decode cX0_appendCharacter 31 = .ok (.aload_n 0, 1) := dk_42 (dk_at dksX0_appendCharacter_1 7 rfl rfl)
theorem dX0_appendCharacter_32 : decode cX0_appendCharacter 32 = .ok (.getfield 243, 3) := dk_180 0 243 (dk_at dksX0_appendCharacter_1 8 rfl rfl)
theorem dX0_appendCharacter_35 : decode cX0_appendCharacter 35 = .ok (.iload_n 1, 1) := dk_27 (dk_at dksX0_appendCharacter_1 11 rfl rfl)
theorem dX0_appendCharacter_36 : decode cX0_appendCharacter 36 = .ok (.i2c, 1) := dk_146 (dk_at dksX0_appendCharacter_1 12 rfl rfl)
theorem dX0_appendCharacter_37 : decode cX0_appendCharacter 37 = .ok (.invokevirtual 390, 3) := dk_182 1 134 (dk_at dksX0_appendCharacter_1 13 rfl rfl)
theorem dX0_appendCharacter_40 : decode cX0_appendCharacter 40 = .ok (.pop, 1) := dk_87 (dk_at dksX0_appendCharacter_1 16 rfl rfl)
theorem dX0_appendCharacter_41 : decode cX0_appendCharacter 41 = .ok (.aload_n 0, 1) := dk_42 (dk_at dksX0_appendCharacter_1 17 rfl rfl)
theorem dX0_appendCharacter_42 : decode cX0_appendCharacter 42 = .ok (.getfield 243, 3) := dk_180 0 243 (dk_at dksX0_appendCharacter_1 18 rfl rfl)
theorem dX0_appendCharacter_45 : decode cX0_appendCharacter 45 = .ok (.invokevirtual 387, 3) := dk_182 1 131 (dk_at dksX0_appendCharacter_1 21 rfl rfl)
theorem dX0_appendCharacter_48 : decode cX0_appendCharacter 48 = .ok (.ireturn, 1) := dk_172 (dk_at dksX0_appendCharacter_2 0 rfl rfl)
abbrev cX0_clearText : ByteArray := prog_1_method_53_code
def yX0_clearText : MethodName := ⟨RX0, "clearText", "()I"⟩
def dkwX0_clearText_0 : List UInt8 := [42, 180, 0, 243, 182, 1, 131, 60, 42, 180, 0, 243, 3, 182, 1, 138, 27, 172]
abbrev dktX0_clearText_0 : List UInt8 := dkwX0_clearText_0 ++ []
theorem dksX0_clearText_0 : cX0_clearText.data.toList.drop 0 = dktX0_clearText_0 := by decide +kernel
theorem dX0_clearText_0 : decode cX0_clearText 0 = .ok (.aload_n 0, 1) := dk_42 (dk_at dksX0_clearText_0 0 rfl rfl)
theorem dX0_clearText_1 : decode cX0_clearText 1 = .ok (.getfield 243, 3) := dk_180 0 243 (dk_at dksX0_clearText_0 1 rfl rfl)
theorem dX0_clearText_4 : decode cX0_clearText 4 = .ok (.invokevirtual 387, 3) := dk_182 1 131 (dk_at dksX0_clearText_0 4 rfl rfl)
theorem dX0_clearText_7 : decode cX0_clearText 7 = .ok (.istore_n 1, 1) := dk_60 (dk_at dksX0_clearText_0 7 rfl rfl)
theorem dX0_clearText_8 : decode cX0_clearText 8 = .ok (.aload_n 0, 1) := dk_42 (dk_at dksX0_clearText_0 8 rfl rfl)
theorem dX0_clearText_9 : decode cX0_clearText 9 = .ok (.getfield 243, 3) := dk_180 0 243 (dk_at dksX0_clearText_0 9 rfl rfl)
theorem dX0_clearText_12 : decode cX0_clearText 12 = .ok (.iconst 0, 1) := dk_3 (dk_at dksX0_clearText_0 12 rfl rfl)
theorem dX0_clearText_13 : decode cX0_clearText 13 = .ok (.invokevirtual 394, 3) := dk_182 1 138 (dk_at dksX0_clearText_0 13 rfl rfl)
theorem dX0_clearText_16 : decode cX0_clearText 16 = .ok (.iload_n 1, 1) := dk_27 (dk_at dksX0_clearText_0 16 rfl rfl)
theorem dX0_clearText_17 : decode cX0_clearText 17 = .ok (.ireturn, 1) := dk_172 (dk_at dksX0_clearText_0 17 rfl rfl)
abbrev cX0_evaluate : ByteArray := prog_1_method_54_code
def yX0_evaluate : MethodName := ⟨RX0, "evaluate", "(I)I"⟩
def dkwX0_evaluate_2 : List UInt8 := [182, 1, 24, 54, 4, 21, 4, 158, 0, 11, 42, 180, 0, 243, 3, 182, 1, 138, 21, 4, 172]
abbrev dktX0_evaluate_2 : List UInt8 := dkwX0_evaluate_2 ++ []
def dkwX0_evaluate_1 : List UInt8 := [167, 0, 12, 78, 16, 246, 45, 180, 1, 152, 100, 172, 44, 78, 42, 4, 27, 45, 186, 1, 155, 0, 0]
abbrev dktX0_evaluate_1 : List UInt8 := dkwX0_evaluate_1 ++ dktX0_evaluate_2
def dkwX0_evaluate_0 : List UInt8 := [27, 184, 0, 254, 154, 0, 7, 19, 1, 1, 172, 187, 1, 141, 89, 42, 183, 1, 143, 182, 1, 146, 77]
abbrev dktX0_evaluate_0 : List UInt8 := dkwX0_evaluate_0 ++ dktX0_evaluate_1
theorem dksX0_evaluate_0 : cX0_evaluate.data.toList.drop 0 = dktX0_evaluate_0 := by decide +kernel
theorem dksX0_evaluate_1 : cX0_evaluate.data.toList.drop 23 = dktX0_evaluate_1 := dk_seg dksX0_evaluate_0 23 rfl rfl
theorem dksX0_evaluate_2 : cX0_evaluate.data.toList.drop 46 = dktX0_evaluate_2 := dk_seg dksX0_evaluate_1 23 rfl rfl
theorem dX0_evaluate_0 : decode cX0_evaluate 0 = .ok (.iload_n 1, 1) := dk_27 (dk_at dksX0_evaluate_0 0 rfl rfl)
theorem dX0_evaluate_1 : decode cX0_evaluate 1 = .ok (.invokestatic 254, 3) := dk_184 0 254 (dk_at dksX0_evaluate_0 1 rfl rfl)
theorem dX0_evaluate_4 : decode cX0_evaluate 4 = .ok (.ifCond .ne 7, 3) := dk_154 0 7 (dk_at dksX0_evaluate_0 4 rfl rfl)
theorem dX0_evaluate_7 : decode cX0_evaluate 7 = .ok (.ldc_w 257, 3) := dk_19 1 1 (dk_at dksX0_evaluate_0 7 rfl rfl)
theorem dX0_evaluate_10 : decode cX0_evaluate 10 = .ok (.ireturn, 1) := dk_172 (dk_at dksX0_evaluate_0 10 rfl rfl)
theorem dX0_evaluate_11 : decode cX0_evaluate 11 = .ok (.new 397, 3) := dk_187 1 141 (dk_at dksX0_evaluate_0 11 rfl rfl)
theorem dX0_evaluate_14 : decode cX0_evaluate 14 = .ok (.dup, 1) := dk_89 (dk_at dksX0_evaluate_0 14 rfl rfl)
theorem dX0_evaluate_15 : decode cX0_evaluate 15 = .ok (.aload_n 0, 1) := dk_42 (dk_at dksX0_evaluate_0 15 rfl rfl)
theorem dX0_evaluate_16 : decode cX0_evaluate 16 = .ok (.invokespecial 399, 3) := dk_183 1 143 (dk_at dksX0_evaluate_0 16 rfl rfl)
theorem dX0_evaluate_19 : decode cX0_evaluate 19 = .ok (.invokevirtual 402, 3) := dk_182 1 146 (dk_at dksX0_evaluate_0 19 rfl rfl)
theorem dX0_evaluate_22 : decode cX0_evaluate 22 = .ok (.astore_n 2, 1) := dk_77 (dk_at dksX0_evaluate_0 22 rfl rfl)
theorem dX0_evaluate_23 : decode cX0_evaluate 23 = .ok (.goto 12, 3) := dk_167 0 12 (dk_at dksX0_evaluate_1 0 rfl rfl)
theorem dX0_evaluate_26 : decode cX0_evaluate 26 = .ok (.astore_n 3, 1) := dk_78 (dk_at dksX0_evaluate_1 3 rfl rfl)
theorem dX0_evaluate_27 : decode cX0_evaluate 27 = .ok (.bipush (-10), 2) := dk_16 246 (dk_at dksX0_evaluate_1 4 rfl rfl)
theorem dX0_evaluate_29 : decode cX0_evaluate 29 = .ok (.aload_n 3, 1) := dk_45 (dk_at dksX0_evaluate_1 6 rfl rfl)
theorem dX0_evaluate_30 : decode cX0_evaluate 30 = .ok (.getfield 408, 3) := dk_180 1 152 (dk_at dksX0_evaluate_1 7 rfl rfl)
theorem dX0_evaluate_33 : decode cX0_evaluate 33 = .ok (.isub, 1) := dk_100 (dk_at dksX0_evaluate_1 10 rfl rfl)
theorem dX0_evaluate_34 : decode cX0_evaluate 34 = .ok (.ireturn, 1) := dk_172 (dk_at dksX0_evaluate_1 11 rfl rfl)
theorem dX0_evaluate_35 : decode cX0_evaluate 35 = .ok (.aload_n 2, 1) := dk_44 (dk_at dksX0_evaluate_1 12 rfl rfl)
theorem dX0_evaluate_36 : decode cX0_evaluate 36 = .ok (.astore_n 3, 1) := dk_78 (dk_at dksX0_evaluate_1 13 rfl rfl)
theorem dX0_evaluate_37 : decode cX0_evaluate 37 = .ok (.aload_n 0, 1) := dk_42 (dk_at dksX0_evaluate_1 14 rfl rfl)
theorem dX0_evaluate_38 : decode cX0_evaluate 38 = .ok (.iconst 1, 1) := dk_4 (dk_at dksX0_evaluate_1 15 rfl rfl)
theorem dX0_evaluate_39 : decode cX0_evaluate 39 = .ok (.iload_n 1, 1) := dk_27 (dk_at dksX0_evaluate_1 16 rfl rfl)
theorem dX0_evaluate_40 : decode cX0_evaluate 40 = .ok (.aload_n 3, 1) := dk_45 (dk_at dksX0_evaluate_1 17 rfl rfl)
theorem dX0_evaluate_41 : decode cX0_evaluate 41 = .ok (.invokedynamic 411, 5) := by decide +kernel
theorem dX0_evaluate_46 : decode cX0_evaluate 46 = .ok (.invokevirtual 280, 3) := dk_182 1 24 (dk_at dksX0_evaluate_2 0 rfl rfl)
theorem dX0_evaluate_49 : decode cX0_evaluate 49 = .ok (.istore 4, 2) := dk_54 4 (dk_at dksX0_evaluate_2 3 rfl rfl)
theorem dX0_evaluate_51 : decode cX0_evaluate 51 = .ok (.iload 4, 2) := dk_21 4 (dk_at dksX0_evaluate_2 5 rfl rfl)
theorem dX0_evaluate_53 : decode cX0_evaluate 53 = .ok (.ifCond .le 11, 3) := dk_158 0 11 (dk_at dksX0_evaluate_2 7 rfl rfl)
theorem dX0_evaluate_56 : decode cX0_evaluate 56 = .ok (.aload_n 0, 1) := dk_42 (dk_at dksX0_evaluate_2 10 rfl rfl)
theorem dX0_evaluate_57 : decode cX0_evaluate 57 = .ok (.getfield 243, 3) := dk_180 0 243 (dk_at dksX0_evaluate_2 11 rfl rfl)
theorem dX0_evaluate_60 : decode cX0_evaluate 60 = .ok (.iconst 0, 1) := dk_3 (dk_at dksX0_evaluate_2 14 rfl rfl)
theorem dX0_evaluate_61 : decode cX0_evaluate 61 = .ok (.invokevirtual 394, 3) := dk_182 1 138 (dk_at dksX0_evaluate_2 15 rfl rfl)
theorem dX0_evaluate_64 : decode cX0_evaluate 64 = .ok (.iload 4, 2) := dk_21 4 (dk_at dksX0_evaluate_2 18 rfl rfl)
theorem dX0_evaluate_66 : decode cX0_evaluate 66 = .ok (.ireturn, 1) := dk_172 (dk_at dksX0_evaluate_2 20 rfl rfl)
abbrev cX0_lambda_evaluate_14 : ByteArray := prog_1_method_71_code
def yX0_lambda_evaluate_14 : MethodName := ⟨RX0, "lambda$evaluate$14", "(LGameCalculator$Expression;)LGameCalculator$Form;"⟩
theorem dX0_lambda_evaluate_14_0 : decode cX0_lambda_evaluate_14 0 = .ok (.aload_n 0, 1) := by decide +kernel
theorem dX0_lambda_evaluate_14_1 : decode cX0_lambda_evaluate_14 1 = .ok (.invokevirtual 463, 3) := by decide +kernel
theorem dX0_lambda_evaluate_14_4 : decode cX0_lambda_evaluate_14 4 = .ok (.areturn, 1) := by decide +kernel
abbrev cX0_compare : ByteArray := prog_1_method_55_code
def yX0_compare : MethodName := ⟨RX0, "compare", "(II)I"⟩
def dkwX0_compare_3 : List UInt8 := [153, 0, 7, 3, 167, 0, 17, 5, 167, 0, 13, 21, 7, 153, 0, 7, 4, 167, 0, 4, 6, 172]
abbrev dktX0_compare_3 : List UInt8 := dkwX0_compare_3 ++ []
def dkwX0_compare_2 : List UInt8 := [182, 1, 158, 54, 6, 45, 25, 5, 25, 4, 182, 1, 158, 54, 7, 21, 6, 153, 0, 16, 21, 7]
abbrev dktX0_compare_2 : List UInt8 := dkwX0_compare_2 ++ dktX0_compare_3
def dkwX0_compare_1 : List UInt8 := [182, 0, 64, 58, 4, 45, 42, 180, 0, 217, 28, 50, 182, 0, 64, 58, 5, 45, 25, 4, 25, 5]
abbrev dktX0_compare_1 : List UInt8 := dkwX0_compare_1 ++ dktX0_compare_2
def dkwX0_compare_0 : List UInt8 := [27, 28, 184, 1, 98, 154, 0, 7, 19, 1, 1, 172, 42, 182, 0, 26, 78, 45, 42, 180, 0, 217, 27, 50]
abbrev dktX0_compare_0 : List UInt8 := dkwX0_compare_0 ++ dktX0_compare_1
theorem dksX0_compare_0 : cX0_compare.data.toList.drop 0 = dktX0_compare_0 := by decide +kernel
theorem dksX0_compare_1 : cX0_compare.data.toList.drop 24 = dktX0_compare_1 := dk_seg dksX0_compare_0 24 rfl rfl
theorem dksX0_compare_2 : cX0_compare.data.toList.drop 46 = dktX0_compare_2 := dk_seg dksX0_compare_1 22 rfl rfl
theorem dksX0_compare_3 : cX0_compare.data.toList.drop 68 = dktX0_compare_3 := dk_seg dksX0_compare_2 22 rfl rfl
theorem dX0_compare_0 : decode cX0_compare 0 = .ok (.iload_n 1, 1) := dk_27 (dk_at dksX0_compare_0 0 rfl rfl)
theorem dX0_compare_1 : decode cX0_compare 1 = .ok (.iload_n 2, 1) := dk_28 (dk_at dksX0_compare_0 1 rfl rfl)
theorem dX0_compare_2 : decode cX0_compare 2 = .ok (.invokestatic 354, 3) := dk_184 1 98 (dk_at dksX0_compare_0 2 rfl rfl)
theorem dX0_compare_5 : decode cX0_compare 5 = .ok (.ifCond .ne 7, 3) := dk_154 0 7 (dk_at dksX0_compare_0 5 rfl rfl)
theorem dX0_compare_8 : decode cX0_compare 8 = .ok (.ldc_w 257, 3) := dk_19 1 1 (dk_at dksX0_compare_0 8 rfl rfl)
theorem dX0_compare_11 : decode cX0_compare 11 = .ok (.ireturn, 1) := dk_172 (dk_at dksX0_compare_0 11 rfl rfl)
theorem dX0_compare_12 : decode cX0_compare 12 = .ok (.aload_n 0, 1) := dk_42 (dk_at dksX0_compare_0 12 rfl rfl)
theorem dX0_compare_13 : decode cX0_compare 13 = .ok (.invokevirtual 26, 3) := dk_182 0 26 (dk_at dksX0_compare_0 13 rfl rfl)
theorem dX0_compare_16 : decode cX0_compare 16 = .ok (.astore_n 3, 1) := dk_78 (dk_at dksX0_compare_0 16 rfl rfl)
theorem dX0_compare_17 : decode cX0_compare 17 = .ok (.aload_n 3, 1) := dk_45 (dk_at dksX0_compare_0 17 rfl rfl)
theorem dX0_compare_18 : decode cX0_compare 18 = .ok (.aload_n 0, 1) := dk_42 (dk_at dksX0_compare_0 18 rfl rfl)
theorem dX0_compare_19 : decode cX0_compare 19 = .ok (.getfield 217, 3) := dk_180 0 217 (dk_at dksX0_compare_0 19 rfl rfl)
theorem dX0_compare_22 : decode cX0_compare 22 = .ok (.iload_n 1, 1) := dk_27 (dk_at dksX0_compare_0 22 rfl rfl)
theorem dX0_compare_23 : decode cX0_compare 23 = .ok (.aaload, 1) := dk_50 (dk_at dksX0_compare_0 23 rfl rfl)
theorem dX0_compare_24 : decode cX0_compare 24 = .ok (.invokevirtual 64, 3) := dk_182 0 64 (dk_at dksX0_compare_1 0 rfl rfl)
theorem dX0_compare_27 : decode cX0_compare 27 = .ok (.astore 4, 2) := dk_58 4 (dk_at dksX0_compare_1 3 rfl rfl)
theorem dX0_compare_29 : decode cX0_compare 29 = .ok (.aload_n 3, 1) := dk_45 (dk_at dksX0_compare_1 5 rfl rfl)
theorem dX0_compare_30 : decode cX0_compare 30 = .ok (.aload_n 0, 1) := dk_42 (dk_at dksX0_compare_1 6 rfl rfl)
theorem dX0_compare_31 : decode cX0_compare 31 = .ok (.getfield 217, 3) := dk_180 0 217 (dk_at dksX0_compare_1 7 rfl rfl)
theorem dX0_compare_34 : decode cX0_compare 34 = .ok (.iload_n 2, 1) := dk_28 (dk_at dksX0_compare_1 10 rfl rfl)
theorem dX0_compare_35 : decode cX0_compare 35 = .ok (.aaload, 1) := dk_50 (dk_at dksX0_compare_1 11 rfl rfl)
theorem dX0_compare_36 : decode cX0_compare 36 = .ok (.invokevirtual 64, 3) := dk_182 0 64 (dk_at dksX0_compare_1 12 rfl rfl)
theorem dX0_compare_39 : decode cX0_compare 39 = .ok (.astore 5, 2) := dk_58 5 (dk_at dksX0_compare_1 15 rfl rfl)
theorem dX0_compare_41 : decode cX0_compare 41 = .ok (.aload_n 3, 1) := dk_45 (dk_at dksX0_compare_1 17 rfl rfl)
theorem dX0_compare_42 : decode cX0_compare 42 = .ok (.aload 4, 2) := dk_25 4 (dk_at dksX0_compare_1 18 rfl rfl)
theorem dX0_compare_44 : decode cX0_compare 44 = .ok (.aload 5, 2) := dk_25 5 (dk_at dksX0_compare_1 20 rfl rfl)
theorem dX0_compare_46 : decode cX0_compare 46 = .ok (.invokevirtual 414, 3) := dk_182 1 158 (dk_at dksX0_compare_2 0 rfl rfl)
theorem dX0_compare_49 : decode cX0_compare 49 = .ok (.istore 6, 2) := dk_54 6 (dk_at dksX0_compare_2 3 rfl rfl)
theorem dX0_compare_51 : decode cX0_compare 51 = .ok (.aload_n 3, 1) := dk_45 (dk_at dksX0_compare_2 5 rfl rfl)
theorem dX0_compare_52 : decode cX0_compare 52 = .ok (.aload 5, 2) := dk_25 5 (dk_at dksX0_compare_2 6 rfl rfl)
theorem dX0_compare_54 : decode cX0_compare 54 = .ok (.aload 4, 2) := dk_25 4 (dk_at dksX0_compare_2 8 rfl rfl)
theorem dX0_compare_56 : decode cX0_compare 56 = .ok (.invokevirtual 414, 3) := dk_182 1 158 (dk_at dksX0_compare_2 10 rfl rfl)
theorem dX0_compare_59 : decode cX0_compare 59 = .ok (.istore 7, 2) := dk_54 7 (dk_at dksX0_compare_2 13 rfl rfl)
theorem dX0_compare_61 : decode cX0_compare 61 = .ok (.iload 6, 2) := dk_21 6 (dk_at dksX0_compare_2 15 rfl rfl)
theorem dX0_compare_63 : decode cX0_compare 63 = .ok (.ifCond .eq 16, 3) := dk_153 0 16 (dk_at dksX0_compare_2 17 rfl rfl)
theorem dX0_compare_66 : decode cX0_compare 66 = .ok (.iload 7, 2) := dk_21 7 (dk_at dksX0_compare_2 20 rfl rfl)
theorem dX0_compare_68 : decode cX0_compare 68 = .ok (.ifCond .eq 7, 3) := dk_153 0 7 (dk_at dksX0_compare_3 0 rfl rfl)
theorem dX0_compare_71 : decode cX0_compare 71 = .ok (.iconst 0, 1) := dk_3 (dk_at dksX0_compare_3 3 rfl rfl)
theorem dX0_compare_72 : decode cX0_compare 72 = .ok (.goto 17, 3) := dk_167 0 17 (dk_at dksX0_compare_3 4 rfl rfl)
theorem dX0_compare_75 : decode cX0_compare 75 = .ok (.iconst 2, 1) := dk_5 (dk_at dksX0_compare_3 7 rfl rfl)
theorem dX0_compare_76 : decode cX0_compare 76 = .ok (.goto 13, 3) := dk_167 0 13 (dk_at dksX0_compare_3 8 rfl rfl)
theorem dX0_compare_79 : decode cX0_compare 79 = .ok (.iload 7, 2) := dk_21 7 (dk_at dksX0_compare_3 11 rfl rfl)
theorem dX0_compare_81 : decode cX0_compare 81 = .ok (.ifCond .eq 7, 3) := dk_153 0 7 (dk_at dksX0_compare_3 13 rfl rfl)
theorem dX0_compare_84 : decode cX0_compare 84 = .ok (.iconst 1, 1) := dk_4 (dk_at dksX0_compare_3 16 rfl rfl)
theorem dX0_compare_85 : decode cX0_compare 85 = .ok (.goto 4, 3) := dk_167 0 4 (dk_at dksX0_compare_3 17 rfl rfl)
theorem dX0_compare_88 : decode cX0_compare 88 = .ok (.iconst 3, 1) := dk_6 (dk_at dksX0_compare_3 20 rfl rfl)
theorem dX0_compare_89 : decode cX0_compare 89 = .ok (.ireturn, 1) := dk_172 (dk_at dksX0_compare_3 21 rfl rfl)
abbrev cX0_outcome : ByteArray := prog_1_method_56_code
def yX0_outcome : MethodName := ⟨RX0, "outcome", "(I)I"⟩
def dkwX0_outcome_3 : List UInt8 := [5, 167, 0, 13, 21, 6, 153, 0, 7, 4, 167, 0, 4, 6, 172]
abbrev dktX0_outcome_3 : List UInt8 := dkwX0_outcome_3 ++ []
def dkwX0_outcome_2 : List UInt8 := [45, 3, 50, 25, 4, 182, 1, 158, 54, 6, 21, 5, 153, 0, 16, 21, 6, 153, 0, 7, 3, 167, 0, 17]
abbrev dktX0_outcome_2 : List UInt8 := dkwX0_outcome_2 ++ dktX0_outcome_3
def dkwX0_outcome_1 : List UInt8 := [182, 1, 81, 78, 45, 45, 190, 4, 100, 50, 58, 4, 44, 25, 4, 45, 3, 50, 182, 1, 158, 54, 5, 44]
abbrev dktX0_outcome_1 : List UInt8 := dkwX0_outcome_1 ++ dktX0_outcome_2
def dkwX0_outcome_0 : List UInt8 := [27, 184, 0, 254, 154, 0, 7, 19, 1, 1, 172, 42, 182, 0, 26, 77, 44, 42, 180, 0, 217, 27, 50]
abbrev dktX0_outcome_0 : List UInt8 := dkwX0_outcome_0 ++ dktX0_outcome_1
theorem dksX0_outcome_0 : cX0_outcome.data.toList.drop 0 = dktX0_outcome_0 := by decide +kernel
theorem dksX0_outcome_1 : cX0_outcome.data.toList.drop 23 = dktX0_outcome_1 := dk_seg dksX0_outcome_0 23 rfl rfl
theorem dksX0_outcome_2 : cX0_outcome.data.toList.drop 47 = dktX0_outcome_2 := dk_seg dksX0_outcome_1 24 rfl rfl
theorem dksX0_outcome_3 : cX0_outcome.data.toList.drop 71 = dktX0_outcome_3 := dk_seg dksX0_outcome_2 24 rfl rfl
theorem dX0_outcome_0 : decode cX0_outcome 0 = .ok (.iload_n 1, 1) := dk_27 (dk_at dksX0_outcome_0 0 rfl rfl)
theorem dX0_outcome_1 : decode cX0_outcome 1 = .ok (.invokestatic 254, 3) := dk_184 0 254 (dk_at dksX0_outcome_0 1 rfl rfl)
theorem dX0_outcome_4 : decode cX0_outcome 4 = .ok (.ifCond .ne 7, 3) := dk_154 0 7 (dk_at dksX0_outcome_0 4 rfl rfl)
theorem dX0_outcome_7 : decode cX0_outcome 7 = .ok (.ldc_w 257, 3) := dk_19 1 1 (dk_at dksX0_outcome_0 7 rfl rfl)
theorem dX0_outcome_10 : decode cX0_outcome 10 = .ok (.ireturn, 1) := dk_172 (dk_at dksX0_outcome_0 10 rfl rfl)
theorem dX0_outcome_11 : decode cX0_outcome 11 = .ok (.aload_n 0, 1) := dk_42 (dk_at dksX0_outcome_0 11 rfl rfl)
theorem dX0_outcome_12 : decode cX0_outcome 12 = .ok (.invokevirtual 26, 3) := dk_182 0 26 (dk_at dksX0_outcome_0 12 rfl rfl)
theorem dX0_outcome_15 : decode cX0_outcome 15 = .ok (.astore_n 2, 1) := dk_77 (dk_at dksX0_outcome_0 15 rfl rfl)
theorem dX0_outcome_16 : decode cX0_outcome 16 = .ok (.aload_n 2, 1) := dk_44 (dk_at dksX0_outcome_0 16 rfl rfl)
theorem dX0_outcome_17 : decode cX0_outcome 17 = .ok (.aload_n 0, 1) := dk_42 (dk_at dksX0_outcome_0 17 rfl rfl)
theorem dX0_outcome_18 : decode cX0_outcome 18 = .ok (.getfield 217, 3) := dk_180 0 217 (dk_at dksX0_outcome_0 18 rfl rfl)
theorem dX0_outcome_21 : decode cX0_outcome 21 = .ok (.iload_n 1, 1) := dk_27 (dk_at dksX0_outcome_0 21 rfl rfl)
theorem dX0_outcome_22 : decode cX0_outcome 22 = .ok (.aaload, 1) := dk_50 (dk_at dksX0_outcome_0 22 rfl rfl)
theorem dX0_outcome_23 : decode cX0_outcome 23 = .ok (.invokevirtual 337, 3) := dk_182 1 81 (dk_at dksX0_outcome_1 0 rfl rfl)
theorem dX0_outcome_26 : decode cX0_outcome 26 = .ok (.astore_n 3, 1) := dk_78 (dk_at dksX0_outcome_1 3 rfl rfl)
theorem dX0_outcome_27 : decode cX0_outcome 27 = .ok (.aload_n 3, 1) := dk_45 (dk_at dksX0_outcome_1 4 rfl rfl)
theorem dX0_outcome_28 : decode cX0_outcome 28 = .ok (.aload_n 3, 1) := dk_45 (dk_at dksX0_outcome_1 5 rfl rfl)
theorem dX0_outcome_29 : decode cX0_outcome 29 = .ok (.arraylength, 1) := dk_190 (dk_at dksX0_outcome_1 6 rfl rfl)
theorem dX0_outcome_30 : decode cX0_outcome 30 = .ok (.iconst 1, 1) := dk_4 (dk_at dksX0_outcome_1 7 rfl rfl)
theorem dX0_outcome_31 : decode cX0_outcome 31 = .ok (.isub, 1) := dk_100 (dk_at dksX0_outcome_1 8 rfl rfl)
theorem dX0_outcome_32 : decode cX0_outcome 32 = .ok (.aaload, 1) := dk_50 (dk_at dksX0_outcome_1 9 rfl rfl)
theorem dX0_outcome_33 : decode cX0_outcome 33 = .ok (.astore 4, 2) := dk_58 4 (dk_at dksX0_outcome_1 10 rfl rfl)
theorem dX0_outcome_35 : decode cX0_outcome 35 = .ok (.aload_n 2, 1) := dk_44 (dk_at dksX0_outcome_1 12 rfl rfl)
theorem dX0_outcome_36 : decode cX0_outcome 36 = .ok (.aload 4, 2) := dk_25 4 (dk_at dksX0_outcome_1 13 rfl rfl)
theorem dX0_outcome_38 : decode cX0_outcome 38 = .ok (.aload_n 3, 1) := dk_45 (dk_at dksX0_outcome_1 15 rfl rfl)
theorem dX0_outcome_39 : decode cX0_outcome 39 = .ok (.iconst 0, 1) := dk_3 (dk_at dksX0_outcome_1 16 rfl rfl)
theorem dX0_outcome_40 : decode cX0_outcome 40 = .ok (.aaload, 1) := dk_50 (dk_at dksX0_outcome_1 17 rfl rfl)
theorem dX0_outcome_41 : decode cX0_outcome 41 = .ok (.invokevirtual 414, 3) := dk_182 1 158 (dk_at dksX0_outcome_1 18 rfl rfl)
theorem dX0_outcome_44 : decode cX0_outcome 44 = .ok (.istore 5, 2) := dk_54 5 (dk_at dksX0_outcome_1 21 rfl rfl)
theorem dX0_outcome_46 : decode cX0_outcome 46 = .ok (.aload_n 2, 1) := dk_44 (dk_at dksX0_outcome_1 23 rfl rfl)
theorem dX0_outcome_47 : decode cX0_outcome 47 = .ok (.aload_n 3, 1) := dk_45 (dk_at dksX0_outcome_2 0 rfl rfl)
theorem dX0_outcome_48 : decode cX0_outcome 48 = .ok (.iconst 0, 1) := dk_3 (dk_at dksX0_outcome_2 1 rfl rfl)
theorem dX0_outcome_49 : decode cX0_outcome 49 = .ok (.aaload, 1) := dk_50 (dk_at dksX0_outcome_2 2 rfl rfl)
theorem dX0_outcome_50 : decode cX0_outcome 50 = .ok (.aload 4, 2) := dk_25 4 (dk_at dksX0_outcome_2 3 rfl rfl)
theorem dX0_outcome_52 : decode cX0_outcome 52 = .ok (.invokevirtual 414, 3) := dk_182 1 158 (dk_at dksX0_outcome_2 5 rfl rfl)
theorem dX0_outcome_55 : decode cX0_outcome 55 = .ok (.istore 6, 2) := dk_54 6 (dk_at dksX0_outcome_2 8 rfl rfl)
theorem dX0_outcome_57 : decode cX0_outcome 57 = .ok (.iload 5, 2) := dk_21 5 (dk_at dksX0_outcome_2 10 rfl rfl)
theorem dX0_outcome_59 : decode cX0_outcome 59 = .ok (.ifCond .eq 16, 3) := dk_153 0 16 (dk_at dksX0_outcome_2 12 rfl rfl)
theorem dX0_outcome_62 : decode cX0_outcome 62 = .ok (.iload 6, 2) := dk_21 6 (dk_at dksX0_outcome_2 15 rfl rfl)
theorem dX0_outcome_64 : decode cX0_outcome 64 = .ok (.ifCond .eq 7, 3) := dk_153 0 7 (dk_at dksX0_outcome_2 17 rfl rfl)
theorem dX0_outcome_67 : decode cX0_outcome 67 = .ok (.iconst 0, 1) := dk_3 (dk_at dksX0_outcome_2 20 rfl rfl)
theorem dX0_outcome_68 : decode cX0_outcome 68 = .ok (.goto 17, 3) := dk_167 0 17 (dk_at dksX0_outcome_2 21 rfl rfl)
theorem dX0_outcome_71 : decode cX0_outcome 71 = .ok (.iconst 2, 1) := dk_5 (dk_at dksX0_outcome_3 0 rfl rfl)
theorem dX0_outcome_72 : decode cX0_outcome 72 = .ok (.goto 13, 3) := dk_167 0 13 (dk_at dksX0_outcome_3 1 rfl rfl)
theorem dX0_outcome_75 : decode cX0_outcome 75 = .ok (.iload 6, 2) := dk_21 6 (dk_at dksX0_outcome_3 4 rfl rfl)
theorem dX0_outcome_77 : decode cX0_outcome 77 = .ok (.ifCond .eq 7, 3) := dk_153 0 7 (dk_at dksX0_outcome_3 6 rfl rfl)
theorem dX0_outcome_80 : decode cX0_outcome 80 = .ok (.iconst 1, 1) := dk_4 (dk_at dksX0_outcome_3 9 rfl rfl)
theorem dX0_outcome_81 : decode cX0_outcome 81 = .ok (.goto 4, 3) := dk_167 0 4 (dk_at dksX0_outcome_3 10 rfl rfl)
theorem dX0_outcome_84 : decode cX0_outcome 84 = .ok (.iconst 3, 1) := dk_6 (dk_at dksX0_outcome_3 13 rfl rfl)
theorem dX0_outcome_85 : decode cX0_outcome 85 = .ok (.ireturn, 1) := dk_172 (dk_at dksX0_outcome_3 14 rfl rfl)
abbrev cX0_winningMove : ByteArray := prog_1_method_57_code
def yX0_winningMove : MethodName := ⟨RX0, "winningMove", "(II)I"⟩
def dkwX0_winningMove_4 : List UInt8 := [167, 255, 214, 19, 1, 88, 172]
abbrev dktX0_winningMove_4 : List UInt8 := dkwX0_winningMove_4 ++ []
def dkwX0_winningMove_3 : List UInt8 := [25, 5, 21, 6, 185, 0, 97, 2, 0, 192, 0, 68, 182, 1, 162, 153, 0, 6, 21, 6, 172, 132, 6, 1]
abbrev dktX0_winningMove_3 : List UInt8 := dkwX0_winningMove_3 ++ dktX0_winningMove_4
def dkwX0_winningMove_2 : List UInt8 := [58, 5, 3, 54, 6, 21, 6, 25, 5, 185, 0, 91, 1, 0, 162, 0, 36, 45, 28, 25, 4, 3, 50]
abbrev dktX0_winningMove_2 : List UInt8 := dkwX0_winningMove_2 ++ dktX0_winningMove_3
def dkwX0_winningMove_1 : List UInt8 := [42, 180, 0, 217, 27, 50, 182, 1, 81, 58, 4, 25, 4, 25, 4, 190, 4, 100, 50, 28, 182, 1, 66]
abbrev dktX0_winningMove_1 : List UInt8 := dkwX0_winningMove_1 ++ dktX0_winningMove_2
def dkwX0_winningMove_0 : List UInt8 := [27, 184, 0, 254, 153, 0, 10, 28, 184, 1, 35, 154, 0, 7, 19, 1, 1, 172, 42, 182, 0, 26, 78, 45]
abbrev dktX0_winningMove_0 : List UInt8 := dkwX0_winningMove_0 ++ dktX0_winningMove_1
theorem dksX0_winningMove_0 : cX0_winningMove.data.toList.drop 0 = dktX0_winningMove_0 := by decide +kernel
theorem dksX0_winningMove_1 : cX0_winningMove.data.toList.drop 24 = dktX0_winningMove_1 := dk_seg dksX0_winningMove_0 24 rfl rfl
theorem dksX0_winningMove_2 : cX0_winningMove.data.toList.drop 47 = dktX0_winningMove_2 := dk_seg dksX0_winningMove_1 23 rfl rfl
theorem dksX0_winningMove_3 : cX0_winningMove.data.toList.drop 70 = dktX0_winningMove_3 := dk_seg dksX0_winningMove_2 23 rfl rfl
theorem dksX0_winningMove_4 : cX0_winningMove.data.toList.drop 94 = dktX0_winningMove_4 := dk_seg dksX0_winningMove_3 24 rfl rfl
theorem dX0_winningMove_0 : decode cX0_winningMove 0 = .ok (.iload_n 1, 1) := dk_27 (dk_at dksX0_winningMove_0 0 rfl rfl)
theorem dX0_winningMove_1 : decode cX0_winningMove 1 = .ok (.invokestatic 254, 3) := dk_184 0 254 (dk_at dksX0_winningMove_0 1 rfl rfl)
theorem dX0_winningMove_4 : decode cX0_winningMove 4 = .ok (.ifCond .eq 10, 3) := dk_153 0 10 (dk_at dksX0_winningMove_0 4 rfl rfl)
theorem dX0_winningMove_7 : decode cX0_winningMove 7 = .ok (.iload_n 2, 1) := dk_28 (dk_at dksX0_winningMove_0 7 rfl rfl)
theorem dX0_winningMove_8 : decode cX0_winningMove 8 = .ok (.invokestatic 291, 3) := dk_184 1 35 (dk_at dksX0_winningMove_0 8 rfl rfl)
theorem dX0_winningMove_11 : decode cX0_winningMove 11 = .ok (.ifCond .ne 7, 3) := dk_154 0 7 (dk_at dksX0_winningMove_0 11 rfl rfl)
theorem dX0_winningMove_14 : decode cX0_winningMove 14 = .ok (.ldc_w 257, 3) := dk_19 1 1 (dk_at dksX0_winningMove_0 14 rfl rfl)
theorem dX0_winningMove_17 : decode cX0_winningMove 17 = .ok (.ireturn, 1) := dk_172 (dk_at dksX0_winningMove_0 17 rfl rfl)
theorem dX0_winningMove_18 : decode cX0_winningMove 18 = .ok (.aload_n 0, 1) := dk_42 (dk_at dksX0_winningMove_0 18 rfl rfl)
theorem dX0_winningMove_19 : decode cX0_winningMove 19 = .ok (.invokevirtual 26, 3) := dk_182 0 26 (dk_at dksX0_winningMove_0 19 rfl rfl)
theorem dX0_winningMove_22 : decode cX0_winningMove 22 = .ok (.astore_n 3, 1) := dk_78 (dk_at dksX0_winningMove_0 22 rfl rfl)
theorem dX0_winningMove_23 : decode cX0_winningMove 23 = .ok (.aload_n 3, 1) := dk_45 (dk_at dksX0_winningMove_0 23 rfl rfl)
theorem dX0_winningMove_24 : decode cX0_winningMove 24 = .ok (.aload_n 0, 1) := dk_42 (dk_at dksX0_winningMove_1 0 rfl rfl)
theorem dX0_winningMove_25 : decode cX0_winningMove 25 = .ok (.getfield 217, 3) := dk_180 0 217 (dk_at dksX0_winningMove_1 1 rfl rfl)
theorem dX0_winningMove_28 : decode cX0_winningMove 28 = .ok (.iload_n 1, 1) := dk_27 (dk_at dksX0_winningMove_1 4 rfl rfl)
theorem dX0_winningMove_29 : decode cX0_winningMove 29 = .ok (.aaload, 1) := dk_50 (dk_at dksX0_winningMove_1 5 rfl rfl)
theorem dX0_winningMove_30 : decode cX0_winningMove 30 = .ok (.invokevirtual 337, 3) := dk_182 1 81 (dk_at dksX0_winningMove_1 6 rfl rfl)
theorem dX0_winningMove_33 : decode cX0_winningMove 33 = .ok (.astore 4, 2) := dk_58 4 (dk_at dksX0_winningMove_1 9 rfl rfl)
theorem dX0_winningMove_35 : decode cX0_winningMove 35 = .ok (.aload 4, 2) := dk_25 4 (dk_at dksX0_winningMove_1 11 rfl rfl)
theorem dX0_winningMove_37 : decode cX0_winningMove 37 = .ok (.aload 4, 2) := dk_25 4 (dk_at dksX0_winningMove_1 13 rfl rfl)
theorem dX0_winningMove_39 : decode cX0_winningMove 39 = .ok (.arraylength, 1) := dk_190 (dk_at dksX0_winningMove_1 15 rfl rfl)
theorem dX0_winningMove_40 : decode cX0_winningMove 40 = .ok (.iconst 1, 1) := dk_4 (dk_at dksX0_winningMove_1 16 rfl rfl)
theorem dX0_winningMove_41 : decode cX0_winningMove 41 = .ok (.isub, 1) := dk_100 (dk_at dksX0_winningMove_1 17 rfl rfl)
theorem dX0_winningMove_42 : decode cX0_winningMove 42 = .ok (.aaload, 1) := dk_50 (dk_at dksX0_winningMove_1 18 rfl rfl)
theorem dX0_winningMove_43 : decode cX0_winningMove 43 = .ok (.iload_n 2, 1) := dk_28 (dk_at dksX0_winningMove_1 19 rfl rfl)
theorem dX0_winningMove_44 : decode cX0_winningMove 44 = .ok (.invokevirtual 322, 3) := dk_182 1 66 (dk_at dksX0_winningMove_1 20 rfl rfl)
theorem dX0_winningMove_47 : decode cX0_winningMove 47 = .ok (.astore 5, 2) := dk_58 5 (dk_at dksX0_winningMove_2 0 rfl rfl)
theorem dX0_winningMove_49 : decode cX0_winningMove 49 = .ok (.iconst 0, 1) := dk_3 (dk_at dksX0_winningMove_2 2 rfl rfl)
theorem dX0_winningMove_50 : decode cX0_winningMove 50 = .ok (.istore 6, 2) := dk_54 6 (dk_at dksX0_winningMove_2 3 rfl rfl)
theorem dX0_winningMove_52 : decode cX0_winningMove 52 = .ok (.iload 6, 2) := dk_21 6 (dk_at dksX0_winningMove_2 5 rfl rfl)
theorem dX0_winningMove_54 : decode cX0_winningMove 54 = .ok (.aload 5, 2) := dk_25 5 (dk_at dksX0_winningMove_2 7 rfl rfl)
theorem dX0_winningMove_56 : decode cX0_winningMove 56 = .ok (.invokeinterface 91 1, 5) := by decide +kernel
theorem dX0_winningMove_61 : decode cX0_winningMove 61 = .ok (.if_icmp .ge 36, 3) := dk_162 0 36 (dk_at dksX0_winningMove_2 14 rfl rfl)
theorem dX0_winningMove_64 : decode cX0_winningMove 64 = .ok (.aload_n 3, 1) := dk_45 (dk_at dksX0_winningMove_2 17 rfl rfl)
theorem dX0_winningMove_65 : decode cX0_winningMove 65 = .ok (.iload_n 2, 1) := dk_28 (dk_at dksX0_winningMove_2 18 rfl rfl)
theorem dX0_winningMove_66 : decode cX0_winningMove 66 = .ok (.aload 4, 2) := dk_25 4 (dk_at dksX0_winningMove_2 19 rfl rfl)
theorem dX0_winningMove_68 : decode cX0_winningMove 68 = .ok (.iconst 0, 1) := dk_3 (dk_at dksX0_winningMove_2 21 rfl rfl)
theorem dX0_winningMove_69 : decode cX0_winningMove 69 = .ok (.aaload, 1) := dk_50 (dk_at dksX0_winningMove_2 22 rfl rfl)
theorem dX0_winningMove_70 : decode cX0_winningMove 70 = .ok (.aload 5, 2) := dk_25 5 (dk_at dksX0_winningMove_3 0 rfl rfl)
theorem dX0_winningMove_72 : decode cX0_winningMove 72 = .ok (.iload 6, 2) := dk_21 6 (dk_at dksX0_winningMove_3 2 rfl rfl)
theorem dX0_winningMove_74 : decode cX0_winningMove 74 = .ok (.invokeinterface 97 2, 5) := by decide +kernel
theorem dX0_winningMove_79 : decode cX0_winningMove 79 = .ok (.checkcast 68, 3) := dk_192 0 68 (dk_at dksX0_winningMove_3 9 rfl rfl)
theorem dX0_winningMove_82 : decode cX0_winningMove 82 = .ok (.invokevirtual 418, 3) := dk_182 1 162 (dk_at dksX0_winningMove_3 12 rfl rfl)
theorem dX0_winningMove_85 : decode cX0_winningMove 85 = .ok (.ifCond .eq 6, 3) := dk_153 0 6 (dk_at dksX0_winningMove_3 15 rfl rfl)
theorem dX0_winningMove_88 : decode cX0_winningMove 88 = .ok (.iload 6, 2) := dk_21 6 (dk_at dksX0_winningMove_3 18 rfl rfl)
theorem dX0_winningMove_90 : decode cX0_winningMove 90 = .ok (.ireturn, 1) := dk_172 (dk_at dksX0_winningMove_3 20 rfl rfl)
theorem dX0_winningMove_91 : decode cX0_winningMove 91 = .ok (.iinc 6 1, 3) := dk_132 6 1 (dk_at dksX0_winningMove_3 21 rfl rfl)
theorem dX0_winningMove_94 : decode cX0_winningMove 94 = .ok (.goto (-42), 3) := dk_167 255 214 (dk_at dksX0_winningMove_4 0 rfl rfl)
theorem dX0_winningMove_97 : decode cX0_winningMove 97 = .ok (.ldc_w 344, 3) := dk_19 1 88 (dk_at dksX0_winningMove_4 3 rfl rfl)
theorem dX0_winningMove_100 : decode cX0_winningMove 100 = .ok (.ireturn, 1) := dk_172 (dk_at dksX0_winningMove_4 6 rfl rfl)
abbrev cX0_birthday : ByteArray := prog_1_method_58_code
def yX0_birthday : MethodName := ⟨RX0, "birthday", "(I)I"⟩
def dkwX0_birthday_1 : List UInt8 := [167, 0, 6, 19, 1, 1, 172]
abbrev dktX0_birthday_1 : List UInt8 := dkwX0_birthday_1 ++ []
def dkwX0_birthday_0 : List UInt8 := [27, 184, 0, 254, 153, 0, 22, 42, 182, 0, 26, 42, 180, 0, 217, 27, 50, 182, 0, 64, 180, 1, 166]
abbrev dktX0_birthday_0 : List UInt8 := dkwX0_birthday_0 ++ dktX0_birthday_1
theorem dksX0_birthday_0 : cX0_birthday.data.toList.drop 0 = dktX0_birthday_0 := by decide +kernel
theorem dksX0_birthday_1 : cX0_birthday.data.toList.drop 23 = dktX0_birthday_1 := dk_seg dksX0_birthday_0 23 rfl rfl
theorem dX0_birthday_0 : decode cX0_birthday 0 = .ok (.iload_n 1, 1) := dk_27 (dk_at dksX0_birthday_0 0 rfl rfl)
theorem dX0_birthday_1 : decode cX0_birthday 1 = .ok (.invokestatic 254, 3) := dk_184 0 254 (dk_at dksX0_birthday_0 1 rfl rfl)
theorem dX0_birthday_4 : decode cX0_birthday 4 = .ok (.ifCond .eq 22, 3) := dk_153 0 22 (dk_at dksX0_birthday_0 4 rfl rfl)
theorem dX0_birthday_7 : decode cX0_birthday 7 = .ok (.aload_n 0, 1) := dk_42 (dk_at dksX0_birthday_0 7 rfl rfl)
theorem dX0_birthday_8 : decode cX0_birthday 8 = .ok (.invokevirtual 26, 3) := dk_182 0 26 (dk_at dksX0_birthday_0 8 rfl rfl)
theorem dX0_birthday_11 : decode cX0_birthday 11 = .ok (.aload_n 0, 1) := dk_42 (dk_at dksX0_birthday_0 11 rfl rfl)
theorem dX0_birthday_12 : decode cX0_birthday 12 = .ok (.getfield 217, 3) := dk_180 0 217 (dk_at dksX0_birthday_0 12 rfl rfl)
theorem dX0_birthday_15 : decode cX0_birthday 15 = .ok (.iload_n 1, 1) := dk_27 (dk_at dksX0_birthday_0 15 rfl rfl)
theorem dX0_birthday_16 : decode cX0_birthday 16 = .ok (.aaload, 1) := dk_50 (dk_at dksX0_birthday_0 16 rfl rfl)
theorem dX0_birthday_17 : decode cX0_birthday 17 = .ok (.invokevirtual 64, 3) := dk_182 0 64 (dk_at dksX0_birthday_0 17 rfl rfl)
theorem dX0_birthday_20 : decode cX0_birthday 20 = .ok (.getfield 422, 3) := dk_180 1 166 (dk_at dksX0_birthday_0 20 rfl rfl)
theorem dX0_birthday_23 : decode cX0_birthday 23 = .ok (.goto 6, 3) := dk_167 0 6 (dk_at dksX0_birthday_1 0 rfl rfl)
theorem dX0_birthday_26 : decode cX0_birthday 26 = .ok (.ldc_w 257, 3) := dk_19 1 1 (dk_at dksX0_birthday_1 3 rfl rfl)
theorem dX0_birthday_29 : decode cX0_birthday 29 = .ok (.ireturn, 1) := dk_172 (dk_at dksX0_birthday_1 6 rfl rfl)
abbrev cX0_positions : ByteArray := prog_1_method_59_code
def yX0_positions : MethodName := ⟨RX0, "positions", "(I)I"⟩
def dkwX0_positions_0 : List UInt8 := [27, 184, 0, 254, 153, 0, 15, 42, 180, 0, 217, 27, 50, 180, 0, 15, 167, 0, 6, 19, 1, 1, 172]
abbrev dktX0_positions_0 : List UInt8 := dkwX0_positions_0 ++ []
theorem dksX0_positions_0 : cX0_positions.data.toList.drop 0 = dktX0_positions_0 := by decide +kernel
theorem dX0_positions_0 : decode cX0_positions 0 = .ok (.iload_n 1, 1) := dk_27 (dk_at dksX0_positions_0 0 rfl rfl)
theorem dX0_positions_1 : decode cX0_positions 1 = .ok (.invokestatic 254, 3) := dk_184 0 254 (dk_at dksX0_positions_0 1 rfl rfl)
theorem dX0_positions_4 : decode cX0_positions 4 = .ok (.ifCond .eq 15, 3) := dk_153 0 15 (dk_at dksX0_positions_0 4 rfl rfl)
theorem dX0_positions_7 : decode cX0_positions 7 = .ok (.aload_n 0, 1) := dk_42 (dk_at dksX0_positions_0 7 rfl rfl)
theorem dX0_positions_8 : decode cX0_positions 8 = .ok (.getfield 217, 3) := dk_180 0 217 (dk_at dksX0_positions_0 8 rfl rfl)
theorem dX0_positions_11 : decode cX0_positions 11 = .ok (.iload_n 1, 1) := dk_27 (dk_at dksX0_positions_0 11 rfl rfl)
theorem dX0_positions_12 : decode cX0_positions 12 = .ok (.aaload, 1) := dk_50 (dk_at dksX0_positions_0 12 rfl rfl)
theorem dX0_positions_13 : decode cX0_positions 13 = .ok (.getfield 15, 3) := dk_180 0 15 (dk_at dksX0_positions_0 13 rfl rfl)
theorem dX0_positions_16 : decode cX0_positions 16 = .ok (.goto 6, 3) := dk_167 0 6 (dk_at dksX0_positions_0 16 rfl rfl)
theorem dX0_positions_19 : decode cX0_positions 19 = .ok (.ldc_w 257, 3) := dk_19 1 1 (dk_at dksX0_positions_0 19 rfl rfl)
theorem dX0_positions_22 : decode cX0_positions 22 = .ok (.ireturn, 1) := dk_172 (dk_at dksX0_positions_0 22 rfl rfl)
abbrev cX0_options : ByteArray := prog_1_method_60_code
def yX0_options : MethodName := ⟨RX0, "options", "(II)I"⟩
def dkwX0_options_1 : List UInt8 := [167, 0, 6, 19, 1, 1, 172]
abbrev dktX0_options_1 : List UInt8 := dkwX0_options_1 ++ []
def dkwX0_options_0 : List UInt8 := [27, 184, 0, 254, 153, 0, 23, 28, 184, 1, 35, 153, 0, 16, 42, 180, 0, 217, 27, 50, 28, 182, 1, 169]
abbrev dktX0_options_0 : List UInt8 := dkwX0_options_0 ++ dktX0_options_1
theorem dksX0_options_0 : cX0_options.data.toList.drop 0 = dktX0_options_0 := by decide +kernel
theorem dksX0_options_1 : cX0_options.data.toList.drop 24 = dktX0_options_1 := dk_seg dksX0_options_0 24 rfl rfl
theorem dX0_options_0 : decode cX0_options 0 = .ok (.iload_n 1, 1) := dk_27 (dk_at dksX0_options_0 0 rfl rfl)
theorem dX0_options_1 : decode cX0_options 1 = .ok (.invokestatic 254, 3) := dk_184 0 254 (dk_at dksX0_options_0 1 rfl rfl)
theorem dX0_options_4 : decode cX0_options 4 = .ok (.ifCond .eq 23, 3) := dk_153 0 23 (dk_at dksX0_options_0 4 rfl rfl)
theorem dX0_options_7 : decode cX0_options 7 = .ok (.iload_n 2, 1) := dk_28 (dk_at dksX0_options_0 7 rfl rfl)
theorem dX0_options_8 : decode cX0_options 8 = .ok (.invokestatic 291, 3) := dk_184 1 35 (dk_at dksX0_options_0 8 rfl rfl)
theorem dX0_options_11 : decode cX0_options 11 = .ok (.ifCond .eq 16, 3) := dk_153 0 16 (dk_at dksX0_options_0 11 rfl rfl)
theorem dX0_options_14 : decode cX0_options 14 = .ok (.aload_n 0, 1) := dk_42 (dk_at dksX0_options_0 14 rfl rfl)
theorem dX0_options_15 : decode cX0_options 15 = .ok (.getfield 217, 3) := dk_180 0 217 (dk_at dksX0_options_0 15 rfl rfl)
theorem dX0_options_18 : decode cX0_options 18 = .ok (.iload_n 1, 1) := dk_27 (dk_at dksX0_options_0 18 rfl rfl)
theorem dX0_options_19 : decode cX0_options 19 = .ok (.aaload, 1) := dk_50 (dk_at dksX0_options_0 19 rfl rfl)
theorem dX0_options_20 : decode cX0_options 20 = .ok (.iload_n 2, 1) := dk_28 (dk_at dksX0_options_0 20 rfl rfl)
theorem dX0_options_21 : decode cX0_options 21 = .ok (.invokevirtual 425, 3) := dk_182 1 169 (dk_at dksX0_options_0 21 rfl rfl)
theorem dX0_options_24 : decode cX0_options 24 = .ok (.goto 6, 3) := dk_167 0 6 (dk_at dksX0_options_1 0 rfl rfl)
theorem dX0_options_27 : decode cX0_options 27 = .ok (.ldc_w 257, 3) := dk_19 1 1 (dk_at dksX0_options_1 3 rfl rfl)
theorem dX0_options_30 : decode cX0_options 30 = .ok (.ireturn, 1) := dk_172 (dk_at dksX0_options_1 6 rfl rfl)
abbrev cX0_number : ByteArray := prog_1_method_62_code
def yX0_number : MethodName := ⟨RX0, "number", "(II)I"⟩
def dkwX0_number_1 : List UInt8 := [184, 0, 200, 66, 33, 20, 0, 187, 148, 154, 0, 9, 19, 1, 88, 167, 0, 8, 33, 28, 184, 1, 175, 172]
abbrev dktX0_number_1 : List UInt8 := dkwX0_number_1 ++ []
def dkwX0_number_0 : List UInt8 := [27, 184, 0, 254, 153, 0, 10, 28, 184, 1, 172, 154, 0, 7, 19, 1, 1, 172, 42, 180, 0, 217, 27, 50]
abbrev dktX0_number_0 : List UInt8 := dkwX0_number_0 ++ dktX0_number_1
theorem dksX0_number_0 : cX0_number.data.toList.drop 0 = dktX0_number_0 := by decide +kernel
theorem dksX0_number_1 : cX0_number.data.toList.drop 24 = dktX0_number_1 := dk_seg dksX0_number_0 24 rfl rfl
theorem dX0_number_0 : decode cX0_number 0 = .ok (.iload_n 1, 1) := dk_27 (dk_at dksX0_number_0 0 rfl rfl)
theorem dX0_number_1 : decode cX0_number 1 = .ok (.invokestatic 254, 3) := dk_184 0 254 (dk_at dksX0_number_0 1 rfl rfl)
theorem dX0_number_4 : decode cX0_number 4 = .ok (.ifCond .eq 10, 3) := dk_153 0 10 (dk_at dksX0_number_0 4 rfl rfl)
theorem dX0_number_7 : decode cX0_number 7 = .ok (.iload_n 2, 1) := dk_28 (dk_at dksX0_number_0 7 rfl rfl)
theorem dX0_number_8 : decode cX0_number 8 = .ok (.invokestatic 428, 3) := dk_184 1 172 (dk_at dksX0_number_0 8 rfl rfl)
theorem dX0_number_11 : decode cX0_number 11 = .ok (.ifCond .ne 7, 3) := dk_154 0 7 (dk_at dksX0_number_0 11 rfl rfl)
theorem dX0_number_14 : decode cX0_number 14 = .ok (.ldc_w 257, 3) := dk_19 1 1 (dk_at dksX0_number_0 14 rfl rfl)
theorem dX0_number_17 : decode cX0_number 17 = .ok (.ireturn, 1) := dk_172 (dk_at dksX0_number_0 17 rfl rfl)
theorem dX0_number_18 : decode cX0_number 18 = .ok (.aload_n 0, 1) := dk_42 (dk_at dksX0_number_0 18 rfl rfl)
theorem dX0_number_19 : decode cX0_number 19 = .ok (.getfield 217, 3) := dk_180 0 217 (dk_at dksX0_number_0 19 rfl rfl)
theorem dX0_number_22 : decode cX0_number 22 = .ok (.iload_n 1, 1) := dk_27 (dk_at dksX0_number_0 22 rfl rfl)
theorem dX0_number_23 : decode cX0_number 23 = .ok (.aaload, 1) := dk_50 (dk_at dksX0_number_0 23 rfl rfl)
theorem dX0_number_24 : decode cX0_number 24 = .ok (.invokestatic 200, 3) := dk_184 0 200 (dk_at dksX0_number_1 0 rfl rfl)
theorem dX0_number_27 : decode cX0_number 27 = .ok (.lstore_n 3, 1) := dk_66 (dk_at dksX0_number_1 3 rfl rfl)
theorem dX0_number_28 : decode cX0_number 28 = .ok (.lload_n 3, 1) := dk_33 (dk_at dksX0_number_1 4 rfl rfl)
theorem dX0_number_29 : decode cX0_number 29 = .ok (.ldc2_w 187, 3) := dk_20 0 187 (dk_at dksX0_number_1 5 rfl rfl)
theorem dX0_number_32 : decode cX0_number 32 = .ok (.lcmp, 1) := dk_148 (dk_at dksX0_number_1 8 rfl rfl)
theorem dX0_number_33 : decode cX0_number 33 = .ok (.ifCond .ne 9, 3) := dk_154 0 9 (dk_at dksX0_number_1 9 rfl rfl)
theorem dX0_number_36 : decode cX0_number 36 = .ok (.ldc_w 344, 3) := dk_19 1 88 (dk_at dksX0_number_1 12 rfl rfl)
theorem dX0_number_39 : decode cX0_number 39 = .ok (.goto 8, 3) := dk_167 0 8 (dk_at dksX0_number_1 15 rfl rfl)
theorem dX0_number_42 : decode cX0_number 42 = .ok (.lload_n 3, 1) := dk_33 (dk_at dksX0_number_1 18 rfl rfl)
theorem dX0_number_43 : decode cX0_number 43 = .ok (.iload_n 2, 1) := dk_28 (dk_at dksX0_number_1 19 rfl rfl)
theorem dX0_number_44 : decode cX0_number 44 = .ok (.invokestatic 431, 3) := dk_184 1 175 (dk_at dksX0_number_1 20 rfl rfl)
theorem dX0_number_47 : decode cX0_number 47 = .ok (.ireturn, 1) := dk_172 (dk_at dksX0_number_1 23 rfl rfl)
abbrev cX0_isPart : ByteArray := prog_1_method_61_code
def yX0_isPart : MethodName := ⟨RX0, "isPart", "(I)Z"⟩
def dkwX0_isPart_0 : List UInt8 := [26, 3, 4, 184, 0, 250, 172]
abbrev dktX0_isPart_0 : List UInt8 := dkwX0_isPart_0 ++ []
theorem dksX0_isPart_0 : cX0_isPart.data.toList.drop 0 = dktX0_isPart_0 := by decide +kernel
theorem dX0_isPart_0 : decode cX0_isPart 0 = .ok (.iload_n 0, 1) := dk_26 (dk_at dksX0_isPart_0 0 rfl rfl)
theorem dX0_isPart_1 : decode cX0_isPart 1 = .ok (.iconst 0, 1) := dk_3 (dk_at dksX0_isPart_0 1 rfl rfl)
theorem dX0_isPart_2 : decode cX0_isPart 2 = .ok (.iconst 1, 1) := dk_4 (dk_at dksX0_isPart_0 2 rfl rfl)
theorem dX0_isPart_3 : decode cX0_isPart 3 = .ok (.invokestatic 250, 3) := dk_184 0 250 (dk_at dksX0_isPart_0 3 rfl rfl)
theorem dX0_isPart_6 : decode cX0_isPart 6 = .ok (.ireturn, 1) := dk_172 (dk_at dksX0_isPart_0 6 rfl rfl)
abbrev cX0_part : ByteArray := prog_1_method_21_code
def yX0_part : MethodName := ⟨RX0, "part", "(JI)I"⟩
def dkwX0_part_0 : List UInt8 := [30, 184, 0, 209, 62, 28, 154, 0, 13, 30, 16, 32, 29, 100, 123, 136, 167, 0, 4, 29, 172]
abbrev dktX0_part_0 : List UInt8 := dkwX0_part_0 ++ []
theorem dksX0_part_0 : cX0_part.data.toList.drop 0 = dktX0_part_0 := by decide +kernel
theorem dX0_part_0 : decode cX0_part 0 = .ok (.lload_n 0, 1) := dk_30 (dk_at dksX0_part_0 0 rfl rfl)
theorem dX0_part_1 : decode cX0_part 1 = .ok (.invokestatic 209, 3) := dk_184 0 209 (dk_at dksX0_part_0 1 rfl rfl)
theorem dX0_part_4 : decode cX0_part 4 = .ok (.istore_n 3, 1) := dk_62 (dk_at dksX0_part_0 4 rfl rfl)
theorem dX0_part_5 : decode cX0_part 5 = .ok (.iload_n 2, 1) := dk_28 (dk_at dksX0_part_0 5 rfl rfl)
theorem dX0_part_6 : decode cX0_part 6 = .ok (.ifCond .ne 13, 3) := dk_154 0 13 (dk_at dksX0_part_0 6 rfl rfl)
theorem dX0_part_9 : decode cX0_part 9 = .ok (.lload_n 0, 1) := dk_30 (dk_at dksX0_part_0 9 rfl rfl)
theorem dX0_part_10 : decode cX0_part 10 = .ok (.bipush 32, 2) := dk_16 32 (dk_at dksX0_part_0 10 rfl rfl)
theorem dX0_part_12 : decode cX0_part 12 = .ok (.iload_n 3, 1) := dk_29 (dk_at dksX0_part_0 12 rfl rfl)
theorem dX0_part_13 : decode cX0_part 13 = .ok (.isub, 1) := dk_100 (dk_at dksX0_part_0 13 rfl rfl)
theorem dX0_part_14 : decode cX0_part 14 = .ok (.lshr, 1) := dk_123 (dk_at dksX0_part_0 14 rfl rfl)
theorem dX0_part_15 : decode cX0_part 15 = .ok (.l2i, 1) := dk_136 (dk_at dksX0_part_0 15 rfl rfl)
theorem dX0_part_16 : decode cX0_part 16 = .ok (.goto 4, 3) := dk_167 0 4 (dk_at dksX0_part_0 16 rfl rfl)
theorem dX0_part_19 : decode cX0_part 19 = .ok (.iload_n 3, 1) := dk_29 (dk_at dksX0_part_0 19 rfl rfl)
theorem dX0_part_20 : decode cX0_part 20 = .ok (.ireturn, 1) := dk_172 (dk_at dksX0_part_0 20 rfl rfl)
abbrev cX0_nimber : ByteArray := prog_1_method_63_code
def yX0_nimber : MethodName := ⟨RX0, "nimber", "(I)I"⟩
def dkwX0_nimber_4 : List UInt8 := [172]
abbrev dktX0_nimber_4 : List UInt8 := dkwX0_nimber_4 ++ []
def dkwX0_nimber_3 : List UInt8 := [126, 62, 132, 4, 1, 167, 255, 204, 29, 153, 0, 12, 44, 180, 0, 15, 4, 100, 167, 0, 6, 19, 1, 88]
abbrev dktX0_nimber_3 : List UInt8 := dkwX0_nimber_3 ++ dktX0_nimber_4
def dkwX0_nimber_2 : List UInt8 := [160, 0, 23, 44, 180, 0, 88, 21, 4, 46, 4, 21, 4, 120, 4, 100, 160, 0, 7, 4, 167, 0, 4, 3]
abbrev dktX0_nimber_2 : List UInt8 := dkwX0_nimber_2 ++ dktX0_nimber_3
def dkwX0_nimber_1 : List UInt8 := [21, 4, 44, 180, 0, 15, 162, 0, 49, 29, 44, 180, 0, 81, 21, 4, 46, 4, 21, 4, 120, 4, 100]
abbrev dktX0_nimber_1 : List UInt8 := dkwX0_nimber_1 ++ dktX0_nimber_2
def dkwX0_nimber_0 : List UInt8 := [27, 184, 0, 254, 154, 0, 7, 19, 1, 1, 172, 42, 180, 0, 217, 27, 50, 77, 4, 62, 3, 54, 4]
abbrev dktX0_nimber_0 : List UInt8 := dkwX0_nimber_0 ++ dktX0_nimber_1
theorem dksX0_nimber_0 : cX0_nimber.data.toList.drop 0 = dktX0_nimber_0 := by decide +kernel
theorem dksX0_nimber_1 : cX0_nimber.data.toList.drop 23 = dktX0_nimber_1 := dk_seg dksX0_nimber_0 23 rfl rfl
theorem dksX0_nimber_2 : cX0_nimber.data.toList.drop 46 = dktX0_nimber_2 := dk_seg dksX0_nimber_1 23 rfl rfl
theorem dksX0_nimber_3 : cX0_nimber.data.toList.drop 70 = dktX0_nimber_3 := dk_seg dksX0_nimber_2 24 rfl rfl
theorem dksX0_nimber_4 : cX0_nimber.data.toList.drop 94 = dktX0_nimber_4 := dk_seg dksX0_nimber_3 24 rfl rfl
theorem dX0_nimber_0 : decode cX0_nimber 0 = .ok (.iload_n 1, 1) := dk_27 (dk_at dksX0_nimber_0 0 rfl rfl)
theorem dX0_nimber_1 : decode cX0_nimber 1 = .ok (.invokestatic 254, 3) := dk_184 0 254 (dk_at dksX0_nimber_0 1 rfl rfl)
theorem dX0_nimber_4 : decode cX0_nimber 4 = .ok (.ifCond .ne 7, 3) := dk_154 0 7 (dk_at dksX0_nimber_0 4 rfl rfl)
theorem dX0_nimber_7 : decode cX0_nimber 7 = .ok (.ldc_w 257, 3) := dk_19 1 1 (dk_at dksX0_nimber_0 7 rfl rfl)
theorem dX0_nimber_10 : decode cX0_nimber 10 = .ok (.ireturn, 1) := dk_172 (dk_at dksX0_nimber_0 10 rfl rfl)
theorem dX0_nimber_11 : decode cX0_nimber 11 = .ok (.aload_n 0, 1) := dk_42 (dk_at dksX0_nimber_0 11 rfl rfl)
theorem dX0_nimber_12 : decode cX0_nimber 12 = .ok (.getfield 217, 3) := dk_180 0 217 (dk_at dksX0_nimber_0 12 rfl rfl)
theorem dX0_nimber_15 : decode cX0_nimber 15 = .ok (.iload_n 1, 1) := dk_27 (dk_at dksX0_nimber_0 15 rfl rfl)
theorem dX0_nimber_16 : decode cX0_nimber 16 = .ok (.aaload, 1) := dk_50 (dk_at dksX0_nimber_0 16 rfl rfl)
theorem dX0_nimber_17 : decode cX0_nimber 17 = .ok (.astore_n 2, 1) := dk_77 (dk_at dksX0_nimber_0 17 rfl rfl)
theorem dX0_nimber_18 : decode cX0_nimber 18 = .ok (.iconst 1, 1) := dk_4 (dk_at dksX0_nimber_0 18 rfl rfl)
theorem dX0_nimber_19 : decode cX0_nimber 19 = .ok (.istore_n 3, 1) := dk_62 (dk_at dksX0_nimber_0 19 rfl rfl)
theorem dX0_nimber_20 : decode cX0_nimber 20 = .ok (.iconst 0, 1) := dk_3 (dk_at dksX0_nimber_0 20 rfl rfl)
theorem dX0_nimber_21 : decode cX0_nimber 21 = .ok (.istore 4, 2) := dk_54 4 (dk_at dksX0_nimber_0 21 rfl rfl)
theorem dX0_nimber_23 : decode cX0_nimber 23 = .ok (.iload 4, 2) := dk_21 4 (dk_at dksX0_nimber_1 0 rfl rfl)
theorem dX0_nimber_25 : decode cX0_nimber 25 = .ok (.aload_n 2, 1) := dk_44 (dk_at dksX0_nimber_1 2 rfl rfl)
theorem dX0_nimber_26 : decode cX0_nimber 26 = .ok (.getfield 15, 3) := dk_180 0 15 (dk_at dksX0_nimber_1 3 rfl rfl)
theorem dX0_nimber_29 : decode cX0_nimber 29 = .ok (.if_icmp .ge 49, 3) := dk_162 0 49 (dk_at dksX0_nimber_1 6 rfl rfl)
theorem dX0_nimber_32 : decode cX0_nimber 32 = .ok (.iload_n 3, 1) := dk_29 (dk_at dksX0_nimber_1 9 rfl rfl)
theorem dX0_nimber_33 : decode cX0_nimber 33 = .ok (.aload_n 2, 1) := dk_44 (dk_at dksX0_nimber_1 10 rfl rfl)
theorem dX0_nimber_34 : decode cX0_nimber 34 = .ok (.getfield 81, 3) := dk_180 0 81 (dk_at dksX0_nimber_1 11 rfl rfl)
theorem dX0_nimber_37 : decode cX0_nimber 37 = .ok (.iload 4, 2) := dk_21 4 (dk_at dksX0_nimber_1 14 rfl rfl)
theorem dX0_nimber_39 : decode cX0_nimber 39 = .ok (.iaload, 1) := dk_46 (dk_at dksX0_nimber_1 16 rfl rfl)
theorem dX0_nimber_40 : decode cX0_nimber 40 = .ok (.iconst 1, 1) := dk_4 (dk_at dksX0_nimber_1 17 rfl rfl)
theorem dX0_nimber_41 : decode cX0_nimber 41 = .ok (.iload 4, 2) := dk_21 4 (dk_at dksX0_nimber_1 18 rfl rfl)
theorem dX0_nimber_43 : decode cX0_nimber 43 = .ok (.ishl, 1) := dk_120 (dk_at dksX0_nimber_1 20 rfl rfl)
theorem dX0_nimber_44 : decode cX0_nimber 44 = .ok (.iconst 1, 1) := dk_4 (dk_at dksX0_nimber_1 21 rfl rfl)
theorem dX0_nimber_45 : decode cX0_nimber 45 = .ok (.isub, 1) := dk_100 (dk_at dksX0_nimber_1 22 rfl rfl)
theorem dX0_nimber_46 : decode cX0_nimber 46 = .ok (.if_icmp .ne 23, 3) := dk_160 0 23 (dk_at dksX0_nimber_2 0 rfl rfl)
theorem dX0_nimber_49 : decode cX0_nimber 49 = .ok (.aload_n 2, 1) := dk_44 (dk_at dksX0_nimber_2 3 rfl rfl)
theorem dX0_nimber_50 : decode cX0_nimber 50 = .ok (.getfield 88, 3) := dk_180 0 88 (dk_at dksX0_nimber_2 4 rfl rfl)
theorem dX0_nimber_53 : decode cX0_nimber 53 = .ok (.iload 4, 2) := dk_21 4 (dk_at dksX0_nimber_2 7 rfl rfl)
theorem dX0_nimber_55 : decode cX0_nimber 55 = .ok (.iaload, 1) := dk_46 (dk_at dksX0_nimber_2 9 rfl rfl)
theorem dX0_nimber_56 : decode cX0_nimber 56 = .ok (.iconst 1, 1) := dk_4 (dk_at dksX0_nimber_2 10 rfl rfl)
theorem dX0_nimber_57 : decode cX0_nimber 57 = .ok (.iload 4, 2) := dk_21 4 (dk_at dksX0_nimber_2 11 rfl rfl)
theorem dX0_nimber_59 : decode cX0_nimber 59 = .ok (.ishl, 1) := dk_120 (dk_at dksX0_nimber_2 13 rfl rfl)
theorem dX0_nimber_60 : decode cX0_nimber 60 = .ok (.iconst 1, 1) := dk_4 (dk_at dksX0_nimber_2 14 rfl rfl)
theorem dX0_nimber_61 : decode cX0_nimber 61 = .ok (.isub, 1) := dk_100 (dk_at dksX0_nimber_2 15 rfl rfl)
theorem dX0_nimber_62 : decode cX0_nimber 62 = .ok (.if_icmp .ne 7, 3) := dk_160 0 7 (dk_at dksX0_nimber_2 16 rfl rfl)
theorem dX0_nimber_65 : decode cX0_nimber 65 = .ok (.iconst 1, 1) := dk_4 (dk_at dksX0_nimber_2 19 rfl rfl)
theorem dX0_nimber_66 : decode cX0_nimber 66 = .ok (.goto 4, 3) := dk_167 0 4 (dk_at dksX0_nimber_2 20 rfl rfl)
theorem dX0_nimber_69 : decode cX0_nimber 69 = .ok (.iconst 0, 1) := dk_3 (dk_at dksX0_nimber_2 23 rfl rfl)
theorem dX0_nimber_70 : decode cX0_nimber 70 = .ok (.iand, 1) := dk_126 (dk_at dksX0_nimber_3 0 rfl rfl)
theorem dX0_nimber_71 : decode cX0_nimber 71 = .ok (.istore_n 3, 1) := dk_62 (dk_at dksX0_nimber_3 1 rfl rfl)
theorem dX0_nimber_72 : decode cX0_nimber 72 = .ok (.iinc 4 1, 3) := dk_132 4 1 (dk_at dksX0_nimber_3 2 rfl rfl)
theorem dX0_nimber_75 : decode cX0_nimber 75 = .ok (.goto (-52), 3) := dk_167 255 204 (dk_at dksX0_nimber_3 5 rfl rfl)
theorem dX0_nimber_78 : decode cX0_nimber 78 = .ok (.iload_n 3, 1) := dk_29 (dk_at dksX0_nimber_3 8 rfl rfl)
theorem dX0_nimber_79 : decode cX0_nimber 79 = .ok (.ifCond .eq 12, 3) := dk_153 0 12 (dk_at dksX0_nimber_3 9 rfl rfl)
theorem dX0_nimber_82 : decode cX0_nimber 82 = .ok (.aload_n 2, 1) := dk_44 (dk_at dksX0_nimber_3 12 rfl rfl)
theorem dX0_nimber_83 : decode cX0_nimber 83 = .ok (.getfield 15, 3) := dk_180 0 15 (dk_at dksX0_nimber_3 13 rfl rfl)
theorem dX0_nimber_86 : decode cX0_nimber 86 = .ok (.iconst 1, 1) := dk_4 (dk_at dksX0_nimber_3 16 rfl rfl)
theorem dX0_nimber_87 : decode cX0_nimber 87 = .ok (.isub, 1) := dk_100 (dk_at dksX0_nimber_3 17 rfl rfl)
theorem dX0_nimber_88 : decode cX0_nimber 88 = .ok (.goto 6, 3) := dk_167 0 6 (dk_at dksX0_nimber_3 18 rfl rfl)
theorem dX0_nimber_91 : decode cX0_nimber 91 = .ok (.ldc_w 344, 3) := dk_19 1 88 (dk_at dksX0_nimber_3 21 rfl rfl)
theorem dX0_nimber_94 : decode cX0_nimber 94 = .ok (.ireturn, 1) := dk_172 (dk_at dksX0_nimber_4 0 rfl rfl)
abbrev cX0_ups : ByteArray := prog_1_method_64_code
def yX0_ups : MethodName := ⟨RX0, "ups", "(II)I"⟩
def dkwX0_ups_3 : List UInt8 := [58, 5, 19, 1, 88, 172, 132, 4, 1, 167, 255, 205, 132, 3, 1, 167, 255, 191, 19, 1, 88, 172]
abbrev dktX0_ups_3 : List UInt8 := dkwX0_ups_3 ++ []
def dkwX0_ups_2 : List UInt8 := [50, 182, 1, 38, 153, 0, 17, 28, 154, 0, 10, 29, 16, 10, 96, 167, 0, 5, 21, 4, 172, 167, 0, 9]
abbrev dktX0_ups_2 : List UInt8 := dkwX0_ups_2 ++ dktX0_ups_3
def dkwX0_ups_1 : List UInt8 := [163, 0, 66, 3, 54, 4, 21, 4, 6, 163, 0, 51, 42, 29, 21, 4, 182, 1, 179, 42, 180, 0, 217, 27]
abbrev dktX0_ups_1 : List UInt8 := dkwX0_ups_1 ++ dktX0_ups_2
def dkwX0_ups_0 : List UInt8 := [27, 184, 0, 254, 153, 0, 10, 28, 184, 1, 172, 154, 0, 7, 19, 1, 1, 172, 16, 252, 62, 29, 7]
abbrev dktX0_ups_0 : List UInt8 := dkwX0_ups_0 ++ dktX0_ups_1
theorem dksX0_ups_0 : cX0_ups.data.toList.drop 0 = dktX0_ups_0 := by decide +kernel
theorem dksX0_ups_1 : cX0_ups.data.toList.drop 23 = dktX0_ups_1 := dk_seg dksX0_ups_0 23 rfl rfl
theorem dksX0_ups_2 : cX0_ups.data.toList.drop 47 = dktX0_ups_2 := dk_seg dksX0_ups_1 24 rfl rfl
theorem dksX0_ups_3 : cX0_ups.data.toList.drop 71 = dktX0_ups_3 := dk_seg dksX0_ups_2 24 rfl rfl
theorem dX0_ups_0 : decode cX0_ups 0 = .ok (.iload_n 1, 1) := dk_27 (dk_at dksX0_ups_0 0 rfl rfl)
theorem dX0_ups_1 : decode cX0_ups 1 = .ok (.invokestatic 254, 3) := dk_184 0 254 (dk_at dksX0_ups_0 1 rfl rfl)
theorem dX0_ups_4 : decode cX0_ups 4 = .ok (.ifCond .eq 10, 3) := dk_153 0 10 (dk_at dksX0_ups_0 4 rfl rfl)
theorem dX0_ups_7 : decode cX0_ups 7 = .ok (.iload_n 2, 1) := dk_28 (dk_at dksX0_ups_0 7 rfl rfl)
theorem dX0_ups_8 : decode cX0_ups 8 = .ok (.invokestatic 428, 3) := dk_184 1 172 (dk_at dksX0_ups_0 8 rfl rfl)
theorem dX0_ups_11 : decode cX0_ups 11 = .ok (.ifCond .ne 7, 3) := dk_154 0 7 (dk_at dksX0_ups_0 11 rfl rfl)
theorem dX0_ups_14 : decode cX0_ups 14 = .ok (.ldc_w 257, 3) := dk_19 1 1 (dk_at dksX0_ups_0 14 rfl rfl)
theorem dX0_ups_17 : decode cX0_ups 17 = .ok (.ireturn, 1) := dk_172 (dk_at dksX0_ups_0 17 rfl rfl)
theorem dX0_ups_18 : decode cX0_ups 18 = .ok (.bipush (-4), 2) := dk_16 252 (dk_at dksX0_ups_0 18 rfl rfl)
theorem dX0_ups_20 : decode cX0_ups 20 = .ok (.istore_n 3, 1) := dk_62 (dk_at dksX0_ups_0 20 rfl rfl)
theorem dX0_ups_21 : decode cX0_ups 21 = .ok (.iload_n 3, 1) := dk_29 (dk_at dksX0_ups_0 21 rfl rfl)
theorem dX0_ups_22 : decode cX0_ups 22 = .ok (.iconst 4, 1) := dk_7 (dk_at dksX0_ups_0 22 rfl rfl)
theorem dX0_ups_23 : decode cX0_ups 23 = .ok (.if_icmp .gt 66, 3) := dk_163 0 66 (dk_at dksX0_ups_1 0 rfl rfl)
theorem dX0_ups_26 : decode cX0_ups 26 = .ok (.iconst 0, 1) := dk_3 (dk_at dksX0_ups_1 3 rfl rfl)
theorem dX0_ups_27 : decode cX0_ups 27 = .ok (.istore 4, 2) := dk_54 4 (dk_at dksX0_ups_1 4 rfl rfl)
theorem dX0_ups_29 : decode cX0_ups 29 = .ok (.iload 4, 2) := dk_21 4 (dk_at dksX0_ups_1 6 rfl rfl)
theorem dX0_ups_31 : decode cX0_ups 31 = .ok (.iconst 3, 1) := dk_6 (dk_at dksX0_ups_1 8 rfl rfl)
theorem dX0_ups_32 : decode cX0_ups 32 = .ok (.if_icmp .gt 51, 3) := dk_163 0 51 (dk_at dksX0_ups_1 9 rfl rfl)
theorem dX0_ups_35 : decode cX0_ups 35 = .ok (.aload_n 0, 1) := dk_42 (dk_at dksX0_ups_1 12 rfl rfl)
theorem dX0_ups_36 : decode cX0_ups 36 = .ok (.iload_n 3, 1) := dk_29 (dk_at dksX0_ups_1 13 rfl rfl)
theorem dX0_ups_37 : decode cX0_ups 37 = .ok (.iload 4, 2) := dk_21 4 (dk_at dksX0_ups_1 14 rfl rfl)
theorem dX0_ups_39 : decode cX0_ups 39 = .ok (.invokevirtual 435, 3) := dk_182 1 179 (dk_at dksX0_ups_1 16 rfl rfl)
theorem dX0_ups_42 : decode cX0_ups 42 = .ok (.aload_n 0, 1) := dk_42 (dk_at dksX0_ups_1 19 rfl rfl)
theorem dX0_ups_43 : decode cX0_ups 43 = .ok (.getfield 217, 3) := dk_180 0 217 (dk_at dksX0_ups_1 20 rfl rfl)
theorem dX0_ups_46 : decode cX0_ups 46 = .ok (.iload_n 1, 1) := dk_27 (dk_at dksX0_ups_1 23 rfl rfl)
theorem dX0_ups_47 : decode cX0_ups 47 = .ok (.aaload, 1) := dk_50 (dk_at dksX0_ups_2 0 rfl rfl)
theorem dX0_ups_48 : decode cX0_ups 48 = .ok (.invokevirtual 294, 3) := dk_182 1 38 (dk_at dksX0_ups_2 1 rfl rfl)
theorem dX0_ups_51 : decode cX0_ups 51 = .ok (.ifCond .eq 17, 3) := dk_153 0 17 (dk_at dksX0_ups_2 4 rfl rfl)
theorem dX0_ups_54 : decode cX0_ups 54 = .ok (.iload_n 2, 1) := dk_28 (dk_at dksX0_ups_2 7 rfl rfl)
theorem dX0_ups_55 : decode cX0_ups 55 = .ok (.ifCond .ne 10, 3) := dk_154 0 10 (dk_at dksX0_ups_2 8 rfl rfl)
theorem dX0_ups_58 : decode cX0_ups 58 = .ok (.iload_n 3, 1) := dk_29 (dk_at dksX0_ups_2 11 rfl rfl)
theorem dX0_ups_59 : decode cX0_ups 59 = .ok (.bipush 10, 2) := dk_16 10 (dk_at dksX0_ups_2 12 rfl rfl)
theorem dX0_ups_61 : decode cX0_ups 61 = .ok (.iadd, 1) := dk_96 (dk_at dksX0_ups_2 14 rfl rfl)
theorem dX0_ups_62 : decode cX0_ups 62 = .ok (.goto 5, 3) := dk_167 0 5 (dk_at dksX0_ups_2 15 rfl rfl)
theorem dX0_ups_65 : decode cX0_ups 65 = .ok (.iload 4, 2) := dk_21 4 (dk_at dksX0_ups_2 18 rfl rfl)
theorem dX0_ups_67 : decode cX0_ups 67 = .ok (.ireturn, 1) := dk_172 (dk_at dksX0_ups_2 20 rfl rfl)
theorem dX0_ups_68 : decode cX0_ups 68 = .ok (.goto 9, 3) := dk_167 0 9 (dk_at dksX0_ups_2 21 rfl rfl)
theorem dX0_ups_71 : decode cX0_ups 71 = .ok (.astore 5, 2) := dk_58 5 (dk_at dksX0_ups_3 0 rfl rfl)
theorem dX0_ups_73 : decode cX0_ups 73 = .ok (.ldc_w 344, 3) := dk_19 1 88 (dk_at dksX0_ups_3 2 rfl rfl)
theorem dX0_ups_76 : decode cX0_ups 76 = .ok (.ireturn, 1) := dk_172 (dk_at dksX0_ups_3 5 rfl rfl)
theorem dX0_ups_77 : decode cX0_ups 77 = .ok (.iinc 4 1, 3) := dk_132 4 1 (dk_at dksX0_ups_3 6 rfl rfl)
theorem dX0_ups_80 : decode cX0_ups 80 = .ok (.goto (-51), 3) := dk_167 255 205 (dk_at dksX0_ups_3 9 rfl rfl)
theorem dX0_ups_83 : decode cX0_ups 83 = .ok (.iinc 3 1, 3) := dk_132 3 1 (dk_at dksX0_ups_3 12 rfl rfl)
theorem dX0_ups_86 : decode cX0_ups 86 = .ok (.goto (-65), 3) := dk_167 255 191 (dk_at dksX0_ups_3 15 rfl rfl)
theorem dX0_ups_89 : decode cX0_ups 89 = .ok (.ldc_w 344, 3) := dk_19 1 88 (dk_at dksX0_ups_3 18 rfl rfl)
theorem dX0_ups_92 : decode cX0_ups 92 = .ok (.ireturn, 1) := dk_172 (dk_at dksX0_ups_3 21 rfl rfl)
abbrev cX0_isInfinitesimal : ByteArray := prog_1_method_65_code
def yX0_isInfinitesimal : MethodName := ⟨RX0, "isInfinitesimal", "(I)I"⟩
def dkwX0_isInfinitesimal_2 : List UInt8 := [167, 0, 4, 3, 172]
abbrev dktX0_isInfinitesimal_2 : List UInt8 := dkwX0_isInfinitesimal_2 ++ []
def dkwX0_isInfinitesimal_1 : List UInt8 := [77, 44, 3, 9, 182, 1, 188, 9, 148, 154, 0, 18, 44, 4, 9, 182, 1, 188, 9, 148, 154, 0, 7, 4]
abbrev dktX0_isInfinitesimal_1 : List UInt8 := dkwX0_isInfinitesimal_1 ++ dktX0_isInfinitesimal_2
def dkwX0_isInfinitesimal_0 : List UInt8 := [27, 184, 0, 254, 154, 0, 7, 19, 1, 1, 172, 187, 1, 183, 89, 42, 180, 0, 217, 27, 50, 183, 1, 185]
abbrev dktX0_isInfinitesimal_0 : List UInt8 := dkwX0_isInfinitesimal_0 ++ dktX0_isInfinitesimal_1
theorem dksX0_isInfinitesimal_0 : cX0_isInfinitesimal.data.toList.drop 0 = dktX0_isInfinitesimal_0 := by decide +kernel
theorem dksX0_isInfinitesimal_1 : cX0_isInfinitesimal.data.toList.drop 24 = dktX0_isInfinitesimal_1 := dk_seg dksX0_isInfinitesimal_0 24 rfl rfl
theorem dksX0_isInfinitesimal_2 : cX0_isInfinitesimal.data.toList.drop 48 = dktX0_isInfinitesimal_2 := dk_seg dksX0_isInfinitesimal_1 24 rfl rfl
theorem dX0_isInfinitesimal_0 : decode cX0_isInfinitesimal 0 = .ok (.iload_n 1, 1) := dk_27 (dk_at dksX0_isInfinitesimal_0 0 rfl rfl)
theorem dX0_isInfinitesimal_1 : decode cX0_isInfinitesimal 1 = .ok (.invokestatic 254, 3) := dk_184 0 254 (dk_at dksX0_isInfinitesimal_0 1 rfl rfl)
theorem dX0_isInfinitesimal_4 : decode cX0_isInfinitesimal 4 = .ok (.ifCond .ne 7, 3) := dk_154 0 7 (dk_at dksX0_isInfinitesimal_0 4 rfl rfl)
theorem dX0_isInfinitesimal_7 : decode cX0_isInfinitesimal 7 = .ok (.ldc_w 257, 3) := dk_19 1 1 (dk_at dksX0_isInfinitesimal_0 7 rfl rfl)
theorem dX0_isInfinitesimal_10 : decode cX0_isInfinitesimal 10 = .ok (.ireturn, 1) := dk_172 (dk_at dksX0_isInfinitesimal_0 10 rfl rfl)
theorem dX0_isInfinitesimal_11 : decode cX0_isInfinitesimal 11 = .ok (.new 439, 3) := dk_187 1 183 (dk_at dksX0_isInfinitesimal_0 11 rfl rfl)
theorem dX0_isInfinitesimal_14 : decode cX0_isInfinitesimal 14 = .ok (.dup, 1) := dk_89 (dk_at dksX0_isInfinitesimal_0 14 rfl rfl)
theorem dX0_isInfinitesimal_15 : decode cX0_isInfinitesimal 15 = .ok (.aload_n 0, 1) := dk_42 (dk_at dksX0_isInfinitesimal_0 15 rfl rfl)
theorem dX0_isInfinitesimal_16 : decode cX0_isInfinitesimal 16 = .ok (.getfield 217, 3) := dk_180 0 217 (dk_at dksX0_isInfinitesimal_0 16 rfl rfl)
theorem dX0_isInfinitesimal_19 : decode cX0_isInfinitesimal 19 = .ok (.iload_n 1, 1) := dk_27 (dk_at dksX0_isInfinitesimal_0 19 rfl rfl)
theorem dX0_isInfinitesimal_20 : decode cX0_isInfinitesimal 20 = .ok (.aaload, 1) := dk_50 (dk_at dksX0_isInfinitesimal_0 20 rfl rfl)
theorem dX0_isInfinitesimal_21 : decode cX0_isInfinitesimal 21 = .ok (.invokespecial 441, 3) := dk_183 1 185 (dk_at dksX0_isInfinitesimal_0 21 rfl rfl)
theorem dX0_isInfinitesimal_24 : decode cX0_isInfinitesimal 24 = .ok (.astore_n 2, 1) := dk_77 (dk_at dksX0_isInfinitesimal_1 0 rfl rfl)
theorem dX0_isInfinitesimal_25 : decode cX0_isInfinitesimal 25 = .ok (.aload_n 2, 1) := dk_44 (dk_at dksX0_isInfinitesimal_1 1 rfl rfl)
theorem dX0_isInfinitesimal_26 : decode cX0_isInfinitesimal 26 = .ok (.iconst 0, 1) := dk_3 (dk_at dksX0_isInfinitesimal_1 2 rfl rfl)
theorem dX0_isInfinitesimal_27 : decode cX0_isInfinitesimal 27 = .ok (.lconst 0, 1) := dk_9 (dk_at dksX0_isInfinitesimal_1 3 rfl rfl)
theorem dX0_isInfinitesimal_28 : decode cX0_isInfinitesimal 28 = .ok (.invokevirtual 444, 3) := dk_182 1 188 (dk_at dksX0_isInfinitesimal_1 4 rfl rfl)
theorem dX0_isInfinitesimal_31 : decode cX0_isInfinitesimal 31 = .ok (.lconst 0, 1) := dk_9 (dk_at dksX0_isInfinitesimal_1 7 rfl rfl)
theorem dX0_isInfinitesimal_32 : decode cX0_isInfinitesimal 32 = .ok (.lcmp, 1) := dk_148 (dk_at dksX0_isInfinitesimal_1 8 rfl rfl)
theorem dX0_isInfinitesimal_33 : decode cX0_isInfinitesimal 33 = .ok (.ifCond .ne 18, 3) := dk_154 0 18 (dk_at dksX0_isInfinitesimal_1 9 rfl rfl)
theorem dX0_isInfinitesimal_36 : decode cX0_isInfinitesimal 36 = .ok (.aload_n 2, 1) := dk_44 (dk_at dksX0_isInfinitesimal_1 12 rfl rfl)
theorem dX0_isInfinitesimal_37 : decode cX0_isInfinitesimal 37 = .ok (.iconst 1, 1) := dk_4 (dk_at dksX0_isInfinitesimal_1 13 rfl rfl)
theorem dX0_isInfinitesimal_38 : decode cX0_isInfinitesimal 38 = .ok (.lconst 0, 1) := dk_9 (dk_at dksX0_isInfinitesimal_1 14 rfl rfl)
theorem dX0_isInfinitesimal_39 : decode cX0_isInfinitesimal 39 = .ok (.invokevirtual 444, 3) := dk_182 1 188 (dk_at dksX0_isInfinitesimal_1 15 rfl rfl)
theorem dX0_isInfinitesimal_42 : decode cX0_isInfinitesimal 42 = .ok (.lconst 0, 1) := dk_9 (dk_at dksX0_isInfinitesimal_1 18 rfl rfl)
theorem dX0_isInfinitesimal_43 : decode cX0_isInfinitesimal 43 = .ok (.lcmp, 1) := dk_148 (dk_at dksX0_isInfinitesimal_1 19 rfl rfl)
theorem dX0_isInfinitesimal_44 : decode cX0_isInfinitesimal 44 = .ok (.ifCond .ne 7, 3) := dk_154 0 7 (dk_at dksX0_isInfinitesimal_1 20 rfl rfl)
theorem dX0_isInfinitesimal_47 : decode cX0_isInfinitesimal 47 = .ok (.iconst 1, 1) := dk_4 (dk_at dksX0_isInfinitesimal_1 23 rfl rfl)
theorem dX0_isInfinitesimal_48 : decode cX0_isInfinitesimal 48 = .ok (.goto 4, 3) := dk_167 0 4 (dk_at dksX0_isInfinitesimal_2 0 rfl rfl)
theorem dX0_isInfinitesimal_51 : decode cX0_isInfinitesimal 51 = .ok (.iconst 0, 1) := dk_3 (dk_at dksX0_isInfinitesimal_2 3 rfl rfl)
theorem dX0_isInfinitesimal_52 : decode cX0_isInfinitesimal 52 = .ok (.ireturn, 1) := dk_172 (dk_at dksX0_isInfinitesimal_2 4 rfl rfl)
abbrev cX0_stop : ByteArray := prog_1_method_66_code
def yX0_stop : MethodName := ⟨RX0, "stop", "(III)I"⟩
def dkwX0_stop_1 : List UInt8 := [172, 187, 1, 183, 89, 42, 180, 0, 217, 27, 50, 183, 1, 185, 28, 9, 182, 1, 188, 29, 184, 1, 175, 172]
abbrev dktX0_stop_1 : List UInt8 := dkwX0_stop_1 ++ []
def dkwX0_stop_0 : List UInt8 := [27, 184, 0, 254, 153, 0, 17, 28, 184, 1, 35, 153, 0, 10, 29, 184, 1, 172, 154, 0, 7, 19, 1, 1]
abbrev dktX0_stop_0 : List UInt8 := dkwX0_stop_0 ++ dktX0_stop_1
theorem dksX0_stop_0 : cX0_stop.data.toList.drop 0 = dktX0_stop_0 := by decide +kernel
theorem dksX0_stop_1 : cX0_stop.data.toList.drop 24 = dktX0_stop_1 := dk_seg dksX0_stop_0 24 rfl rfl
theorem dX0_stop_0 : decode cX0_stop 0 = .ok (.iload_n 1, 1) := dk_27 (dk_at dksX0_stop_0 0 rfl rfl)
theorem dX0_stop_1 : decode cX0_stop 1 = .ok (.invokestatic 254, 3) := dk_184 0 254 (dk_at dksX0_stop_0 1 rfl rfl)
theorem dX0_stop_4 : decode cX0_stop 4 = .ok (.ifCond .eq 17, 3) := dk_153 0 17 (dk_at dksX0_stop_0 4 rfl rfl)
theorem dX0_stop_7 : decode cX0_stop 7 = .ok (.iload_n 2, 1) := dk_28 (dk_at dksX0_stop_0 7 rfl rfl)
theorem dX0_stop_8 : decode cX0_stop 8 = .ok (.invokestatic 291, 3) := dk_184 1 35 (dk_at dksX0_stop_0 8 rfl rfl)
theorem dX0_stop_11 : decode cX0_stop 11 = .ok (.ifCond .eq 10, 3) := dk_153 0 10 (dk_at dksX0_stop_0 11 rfl rfl)
theorem dX0_stop_14 : decode cX0_stop 14 = .ok (.iload_n 3, 1) := dk_29 (dk_at dksX0_stop_0 14 rfl rfl)
theorem dX0_stop_15 : decode cX0_stop 15 = .ok (.invokestatic 428, 3) := dk_184 1 172 (dk_at dksX0_stop_0 15 rfl rfl)
theorem dX0_stop_18 : decode cX0_stop 18 = .ok (.ifCond .ne 7, 3) := dk_154 0 7 (dk_at dksX0_stop_0 18 rfl rfl)
theorem dX0_stop_21 : decode cX0_stop 21 = .ok (.ldc_w 257, 3) := dk_19 1 1 (dk_at dksX0_stop_0 21 rfl rfl)
theorem dX0_stop_24 : decode cX0_stop 24 = .ok (.ireturn, 1) := dk_172 (dk_at dksX0_stop_1 0 rfl rfl)
theorem dX0_stop_25 : decode cX0_stop 25 = .ok (.new 439, 3) := dk_187 1 183 (dk_at dksX0_stop_1 1 rfl rfl)
theorem dX0_stop_28 : decode cX0_stop 28 = .ok (.dup, 1) := dk_89 (dk_at dksX0_stop_1 4 rfl rfl)
theorem dX0_stop_29 : decode cX0_stop 29 = .ok (.aload_n 0, 1) := dk_42 (dk_at dksX0_stop_1 5 rfl rfl)
theorem dX0_stop_30 : decode cX0_stop 30 = .ok (.getfield 217, 3) := dk_180 0 217 (dk_at dksX0_stop_1 6 rfl rfl)
theorem dX0_stop_33 : decode cX0_stop 33 = .ok (.iload_n 1, 1) := dk_27 (dk_at dksX0_stop_1 9 rfl rfl)
theorem dX0_stop_34 : decode cX0_stop 34 = .ok (.aaload, 1) := dk_50 (dk_at dksX0_stop_1 10 rfl rfl)
theorem dX0_stop_35 : decode cX0_stop 35 = .ok (.invokespecial 441, 3) := dk_183 1 185 (dk_at dksX0_stop_1 11 rfl rfl)
theorem dX0_stop_38 : decode cX0_stop 38 = .ok (.iload_n 2, 1) := dk_28 (dk_at dksX0_stop_1 14 rfl rfl)
theorem dX0_stop_39 : decode cX0_stop 39 = .ok (.lconst 0, 1) := dk_9 (dk_at dksX0_stop_1 15 rfl rfl)
theorem dX0_stop_40 : decode cX0_stop 40 = .ok (.invokevirtual 444, 3) := dk_182 1 188 (dk_at dksX0_stop_1 16 rfl rfl)
theorem dX0_stop_43 : decode cX0_stop 43 = .ok (.iload_n 3, 1) := dk_29 (dk_at dksX0_stop_1 19 rfl rfl)
theorem dX0_stop_44 : decode cX0_stop 44 = .ok (.invokestatic 431, 3) := dk_184 1 175 (dk_at dksX0_stop_1 20 rfl rfl)
theorem dX0_stop_47 : decode cX0_stop 47 = .ok (.ireturn, 1) := dk_172 (dk_at dksX0_stop_1 23 rfl rfl)
abbrev cX0_mean : ByteArray := prog_1_method_67_code
def yX0_mean : MethodName := ⟨RX0, "mean", "(II)I"⟩
def dkwX0_mean_2 : List UInt8 := [184, 1, 175, 172]
abbrev dktX0_mean_2 : List UInt8 := dkwX0_mean_2 ++ []
def dkwX0_mean_1 : List UInt8 := [180, 0, 217, 27, 50, 183, 1, 185, 78, 45, 3, 9, 45, 180, 1, 192, 184, 0, 189, 182, 1, 188, 28]
abbrev dktX0_mean_1 : List UInt8 := dkwX0_mean_1 ++ dktX0_mean_2
def dkwX0_mean_0 : List UInt8 := [27, 184, 0, 254, 153, 0, 10, 28, 184, 1, 172, 154, 0, 7, 19, 1, 1, 172, 187, 1, 183, 89, 42]
abbrev dktX0_mean_0 : List UInt8 := dkwX0_mean_0 ++ dktX0_mean_1
theorem dksX0_mean_0 : cX0_mean.data.toList.drop 0 = dktX0_mean_0 := by decide +kernel
theorem dksX0_mean_1 : cX0_mean.data.toList.drop 23 = dktX0_mean_1 := dk_seg dksX0_mean_0 23 rfl rfl
theorem dksX0_mean_2 : cX0_mean.data.toList.drop 46 = dktX0_mean_2 := dk_seg dksX0_mean_1 23 rfl rfl
theorem dX0_mean_0 : decode cX0_mean 0 = .ok (.iload_n 1, 1) := dk_27 (dk_at dksX0_mean_0 0 rfl rfl)
theorem dX0_mean_1 : decode cX0_mean 1 = .ok (.invokestatic 254, 3) := dk_184 0 254 (dk_at dksX0_mean_0 1 rfl rfl)
theorem dX0_mean_4 : decode cX0_mean 4 = .ok (.ifCond .eq 10, 3) := dk_153 0 10 (dk_at dksX0_mean_0 4 rfl rfl)
theorem dX0_mean_7 : decode cX0_mean 7 = .ok (.iload_n 2, 1) := dk_28 (dk_at dksX0_mean_0 7 rfl rfl)
theorem dX0_mean_8 : decode cX0_mean 8 = .ok (.invokestatic 428, 3) := dk_184 1 172 (dk_at dksX0_mean_0 8 rfl rfl)
theorem dX0_mean_11 : decode cX0_mean 11 = .ok (.ifCond .ne 7, 3) := dk_154 0 7 (dk_at dksX0_mean_0 11 rfl rfl)
theorem dX0_mean_14 : decode cX0_mean 14 = .ok (.ldc_w 257, 3) := dk_19 1 1 (dk_at dksX0_mean_0 14 rfl rfl)
theorem dX0_mean_17 : decode cX0_mean 17 = .ok (.ireturn, 1) := dk_172 (dk_at dksX0_mean_0 17 rfl rfl)
theorem dX0_mean_18 : decode cX0_mean 18 = .ok (.new 439, 3) := dk_187 1 183 (dk_at dksX0_mean_0 18 rfl rfl)
theorem dX0_mean_21 : decode cX0_mean 21 = .ok (.dup, 1) := dk_89 (dk_at dksX0_mean_0 21 rfl rfl)
theorem dX0_mean_22 : decode cX0_mean 22 = .ok (.aload_n 0, 1) := dk_42 (dk_at dksX0_mean_0 22 rfl rfl)
theorem dX0_mean_23 : decode cX0_mean 23 = .ok (.getfield 217, 3) := dk_180 0 217 (dk_at dksX0_mean_1 0 rfl rfl)
theorem dX0_mean_26 : decode cX0_mean 26 = .ok (.iload_n 1, 1) := dk_27 (dk_at dksX0_mean_1 3 rfl rfl)
theorem dX0_mean_27 : decode cX0_mean 27 = .ok (.aaload, 1) := dk_50 (dk_at dksX0_mean_1 4 rfl rfl)
theorem dX0_mean_28 : decode cX0_mean 28 = .ok (.invokespecial 441, 3) := dk_183 1 185 (dk_at dksX0_mean_1 5 rfl rfl)
theorem dX0_mean_31 : decode cX0_mean 31 = .ok (.astore_n 3, 1) := dk_78 (dk_at dksX0_mean_1 8 rfl rfl)
theorem dX0_mean_32 : decode cX0_mean 32 = .ok (.aload_n 3, 1) := dk_45 (dk_at dksX0_mean_1 9 rfl rfl)
theorem dX0_mean_33 : decode cX0_mean 33 = .ok (.iconst 0, 1) := dk_3 (dk_at dksX0_mean_1 10 rfl rfl)
theorem dX0_mean_34 : decode cX0_mean 34 = .ok (.lconst 0, 1) := dk_9 (dk_at dksX0_mean_1 11 rfl rfl)
theorem dX0_mean_35 : decode cX0_mean 35 = .ok (.aload_n 3, 1) := dk_45 (dk_at dksX0_mean_1 12 rfl rfl)
theorem dX0_mean_36 : decode cX0_mean 36 = .ok (.getfield 448, 3) := dk_180 1 192 (dk_at dksX0_mean_1 13 rfl rfl)
theorem dX0_mean_39 : decode cX0_mean 39 = .ok (.invokestatic 189, 3) := dk_184 0 189 (dk_at dksX0_mean_1 16 rfl rfl)
theorem dX0_mean_42 : decode cX0_mean 42 = .ok (.invokevirtual 444, 3) := dk_182 1 188 (dk_at dksX0_mean_1 19 rfl rfl)
theorem dX0_mean_45 : decode cX0_mean 45 = .ok (.iload_n 2, 1) := dk_28 (dk_at dksX0_mean_1 22 rfl rfl)
theorem dX0_mean_46 : decode cX0_mean 46 = .ok (.invokestatic 431, 3) := dk_184 1 175 (dk_at dksX0_mean_2 0 rfl rfl)
theorem dX0_mean_49 : decode cX0_mean 49 = .ok (.ireturn, 1) := dk_172 (dk_at dksX0_mean_2 3 rfl rfl)
abbrev cX0_temperature : ByteArray := prog_1_method_68_code
def yX0_temperature : MethodName := ⟨RX0, "temperature", "(II)I"⟩
def dkwX0_temperature_2 : List UInt8 := [45, 180, 1, 192, 28, 184, 1, 175, 172]
abbrev dktX0_temperature_2 : List UInt8 := dkwX0_temperature_2 ++ []
def dkwX0_temperature_1 : List UInt8 := [180, 0, 217, 27, 50, 183, 1, 185, 78, 45, 180, 1, 192, 9, 148, 156, 0, 9, 19, 1, 88, 167, 0, 11]
abbrev dktX0_temperature_1 : List UInt8 := dkwX0_temperature_1 ++ dktX0_temperature_2
def dkwX0_temperature_0 : List UInt8 := [27, 184, 0, 254, 153, 0, 10, 28, 184, 1, 172, 154, 0, 7, 19, 1, 1, 172, 187, 1, 183, 89, 42]
abbrev dktX0_temperature_0 : List UInt8 := dkwX0_temperature_0 ++ dktX0_temperature_1
theorem dksX0_temperature_0 : cX0_temperature.data.toList.drop 0 = dktX0_temperature_0 := by decide +kernel
theorem dksX0_temperature_1 : cX0_temperature.data.toList.drop 23 = dktX0_temperature_1 := dk_seg dksX0_temperature_0 23 rfl rfl
theorem dksX0_temperature_2 : cX0_temperature.data.toList.drop 47 = dktX0_temperature_2 := dk_seg dksX0_temperature_1 24 rfl rfl
theorem dX0_temperature_0 : decode cX0_temperature 0 = .ok (.iload_n 1, 1) := dk_27 (dk_at dksX0_temperature_0 0 rfl rfl)
theorem dX0_temperature_1 : decode cX0_temperature 1 = .ok (.invokestatic 254, 3) := dk_184 0 254 (dk_at dksX0_temperature_0 1 rfl rfl)
theorem dX0_temperature_4 : decode cX0_temperature 4 = .ok (.ifCond .eq 10, 3) := dk_153 0 10 (dk_at dksX0_temperature_0 4 rfl rfl)
theorem dX0_temperature_7 : decode cX0_temperature 7 = .ok (.iload_n 2, 1) := dk_28 (dk_at dksX0_temperature_0 7 rfl rfl)
theorem dX0_temperature_8 : decode cX0_temperature 8 = .ok (.invokestatic 428, 3) := dk_184 1 172 (dk_at dksX0_temperature_0 8 rfl rfl)
theorem dX0_temperature_11 : decode cX0_temperature 11 = .ok (.ifCond .ne 7, 3) := dk_154 0 7 (dk_at dksX0_temperature_0 11 rfl rfl)
theorem dX0_temperature_14 : decode cX0_temperature 14 = .ok (.ldc_w 257, 3) := dk_19 1 1 (dk_at dksX0_temperature_0 14 rfl rfl)
theorem dX0_temperature_17 : decode cX0_temperature 17 = .ok (.ireturn, 1) := dk_172 (dk_at dksX0_temperature_0 17 rfl rfl)
theorem dX0_temperature_18 : decode cX0_temperature 18 = .ok (.new 439, 3) := dk_187 1 183 (dk_at dksX0_temperature_0 18 rfl rfl)
theorem dX0_temperature_21 : decode cX0_temperature 21 = .ok (.dup, 1) := dk_89 (dk_at dksX0_temperature_0 21 rfl rfl)
theorem dX0_temperature_22 : decode cX0_temperature 22 = .ok (.aload_n 0, 1) := dk_42 (dk_at dksX0_temperature_0 22 rfl rfl)
theorem dX0_temperature_23 : decode cX0_temperature 23 = .ok (.getfield 217, 3) := dk_180 0 217 (dk_at dksX0_temperature_1 0 rfl rfl)
theorem dX0_temperature_26 : decode cX0_temperature 26 = .ok (.iload_n 1, 1) := dk_27 (dk_at dksX0_temperature_1 3 rfl rfl)
theorem dX0_temperature_27 : decode cX0_temperature 27 = .ok (.aaload, 1) := dk_50 (dk_at dksX0_temperature_1 4 rfl rfl)
theorem dX0_temperature_28 : decode cX0_temperature 28 = .ok (.invokespecial 441, 3) := dk_183 1 185 (dk_at dksX0_temperature_1 5 rfl rfl)
theorem dX0_temperature_31 : decode cX0_temperature 31 = .ok (.astore_n 3, 1) := dk_78 (dk_at dksX0_temperature_1 8 rfl rfl)
theorem dX0_temperature_32 : decode cX0_temperature 32 = .ok (.aload_n 3, 1) := dk_45 (dk_at dksX0_temperature_1 9 rfl rfl)
theorem dX0_temperature_33 : decode cX0_temperature 33 = .ok (.getfield 448, 3) := dk_180 1 192 (dk_at dksX0_temperature_1 10 rfl rfl)
theorem dX0_temperature_36 : decode cX0_temperature 36 = .ok (.lconst 0, 1) := dk_9 (dk_at dksX0_temperature_1 13 rfl rfl)
theorem dX0_temperature_37 : decode cX0_temperature 37 = .ok (.lcmp, 1) := dk_148 (dk_at dksX0_temperature_1 14 rfl rfl)
theorem dX0_temperature_38 : decode cX0_temperature 38 = .ok (.ifCond .ge 9, 3) := dk_156 0 9 (dk_at dksX0_temperature_1 15 rfl rfl)
theorem dX0_temperature_41 : decode cX0_temperature 41 = .ok (.ldc_w 344, 3) := dk_19 1 88 (dk_at dksX0_temperature_1 18 rfl rfl)
theorem dX0_temperature_44 : decode cX0_temperature 44 = .ok (.goto 11, 3) := dk_167 0 11 (dk_at dksX0_temperature_1 21 rfl rfl)
theorem dX0_temperature_47 : decode cX0_temperature 47 = .ok (.aload_n 3, 1) := dk_45 (dk_at dksX0_temperature_2 0 rfl rfl)
theorem dX0_temperature_48 : decode cX0_temperature 48 = .ok (.getfield 448, 3) := dk_180 1 192 (dk_at dksX0_temperature_2 1 rfl rfl)
theorem dX0_temperature_51 : decode cX0_temperature 51 = .ok (.iload_n 2, 1) := dk_28 (dk_at dksX0_temperature_2 4 rfl rfl)
theorem dX0_temperature_52 : decode cX0_temperature 52 = .ok (.invokestatic 431, 3) := dk_184 1 175 (dk_at dksX0_temperature_2 5 rfl rfl)
theorem dX0_temperature_55 : decode cX0_temperature 55 = .ok (.ireturn, 1) := dk_172 (dk_at dksX0_temperature_2 8 rfl rfl)
abbrev cX0_wall : ByteArray := prog_1_method_69_code
def yX0_wall : MethodName := ⟨RX0, "wall", "(IIIII)I"⟩
def dkwX0_wall_3 : List UInt8 := [50, 183, 1, 185, 28, 29, 133, 16, 32, 21, 4, 100, 121, 182, 1, 188, 21, 5, 184, 1, 175, 172]
abbrev dktX0_wall_3 : List UInt8 := dkwX0_wall_3 ++ []
def dkwX0_wall_2 : List UInt8 := [153, 0, 11, 21, 5, 184, 1, 172, 154, 0, 7, 19, 1, 1, 172, 187, 1, 183, 89, 42, 180, 0, 217, 27]
abbrev dktX0_wall_2 : List UInt8 := dkwX0_wall_2 ++ dktX0_wall_3
def dkwX0_wall_1 : List UInt8 := [167, 0, 4, 3, 54, 6, 27, 184, 0, 254, 153, 0, 23, 28, 184, 1, 35, 153, 0, 16, 21, 6]
abbrev dktX0_wall_1 : List UInt8 := dkwX0_wall_1 ++ dktX0_wall_2
def dkwX0_wall_0 : List UInt8 := [29, 3, 17, 3, 232, 184, 0, 250, 153, 0, 18, 21, 4, 3, 16, 10, 184, 0, 250, 153, 0, 7, 4]
abbrev dktX0_wall_0 : List UInt8 := dkwX0_wall_0 ++ dktX0_wall_1
theorem dksX0_wall_0 : cX0_wall.data.toList.drop 0 = dktX0_wall_0 := by decide +kernel
theorem dksX0_wall_1 : cX0_wall.data.toList.drop 23 = dktX0_wall_1 := dk_seg dksX0_wall_0 23 rfl rfl
theorem dksX0_wall_2 : cX0_wall.data.toList.drop 45 = dktX0_wall_2 := dk_seg dksX0_wall_1 22 rfl rfl
theorem dksX0_wall_3 : cX0_wall.data.toList.drop 69 = dktX0_wall_3 := dk_seg dksX0_wall_2 24 rfl rfl
theorem dX0_wall_0 : decode cX0_wall 0 = .ok (.iload_n 3, 1) := dk_29 (dk_at dksX0_wall_0 0 rfl rfl)
theorem dX0_wall_1 : decode cX0_wall 1 = .ok (.iconst 0, 1) := dk_3 (dk_at dksX0_wall_0 1 rfl rfl)
theorem dX0_wall_2 : decode cX0_wall 2 = .ok (.sipush 1000, 3) := dk_17 3 232 (dk_at dksX0_wall_0 2 rfl rfl)
theorem dX0_wall_5 : decode cX0_wall 5 = .ok (.invokestatic 250, 3) := dk_184 0 250 (dk_at dksX0_wall_0 5 rfl rfl)
theorem dX0_wall_8 : decode cX0_wall 8 = .ok (.ifCond .eq 18, 3) := dk_153 0 18 (dk_at dksX0_wall_0 8 rfl rfl)
theorem dX0_wall_11 : decode cX0_wall 11 = .ok (.iload 4, 2) := dk_21 4 (dk_at dksX0_wall_0 11 rfl rfl)
theorem dX0_wall_13 : decode cX0_wall 13 = .ok (.iconst 0, 1) := dk_3 (dk_at dksX0_wall_0 13 rfl rfl)
theorem dX0_wall_14 : decode cX0_wall 14 = .ok (.bipush 10, 2) := dk_16 10 (dk_at dksX0_wall_0 14 rfl rfl)
theorem dX0_wall_16 : decode cX0_wall 16 = .ok (.invokestatic 250, 3) := dk_184 0 250 (dk_at dksX0_wall_0 16 rfl rfl)
theorem dX0_wall_19 : decode cX0_wall 19 = .ok (.ifCond .eq 7, 3) := dk_153 0 7 (dk_at dksX0_wall_0 19 rfl rfl)
theorem dX0_wall_22 : decode cX0_wall 22 = .ok (.iconst 1, 1) := dk_4 (dk_at dksX0_wall_0 22 rfl rfl)
theorem dX0_wall_23 : decode cX0_wall 23 = .ok (.goto 4, 3) := dk_167 0 4 (dk_at dksX0_wall_1 0 rfl rfl)
theorem dX0_wall_26 : decode cX0_wall 26 = .ok (.iconst 0, 1) := dk_3 (dk_at dksX0_wall_1 3 rfl rfl)
theorem dX0_wall_27 : decode cX0_wall 27 = .ok (.istore 6, 2) := dk_54 6 (dk_at dksX0_wall_1 4 rfl rfl)
theorem dX0_wall_29 : decode cX0_wall 29 = .ok (.iload_n 1, 1) := dk_27 (dk_at dksX0_wall_1 6 rfl rfl)
theorem dX0_wall_30 : decode cX0_wall 30 = .ok (.invokestatic 254, 3) := dk_184 0 254 (dk_at dksX0_wall_1 7 rfl rfl)
theorem dX0_wall_33 : decode cX0_wall 33 = .ok (.ifCond .eq 23, 3) := dk_153 0 23 (dk_at dksX0_wall_1 10 rfl rfl)
theorem dX0_wall_36 : decode cX0_wall 36 = .ok (.iload_n 2, 1) := dk_28 (dk_at dksX0_wall_1 13 rfl rfl)
theorem dX0_wall_37 : decode cX0_wall 37 = .ok (.invokestatic 291, 3) := dk_184 1 35 (dk_at dksX0_wall_1 14 rfl rfl)
theorem dX0_wall_40 : decode cX0_wall 40 = .ok (.ifCond .eq 16, 3) := dk_153 0 16 (dk_at dksX0_wall_1 17 rfl rfl)
theorem dX0_wall_43 : decode cX0_wall 43 = .ok (.iload 6, 2) := dk_21 6 (dk_at dksX0_wall_1 20 rfl rfl)
theorem dX0_wall_45 : decode cX0_wall 45 = .ok (.ifCond .eq 11, 3) := dk_153 0 11 (dk_at dksX0_wall_2 0 rfl rfl)
theorem dX0_wall_48 : decode cX0_wall 48 = .ok (.iload 5, 2) := dk_21 5 (dk_at dksX0_wall_2 3 rfl rfl)
theorem dX0_wall_50 : decode cX0_wall 50 = .ok (.invokestatic 428, 3) := dk_184 1 172 (dk_at dksX0_wall_2 5 rfl rfl)
theorem dX0_wall_53 : decode cX0_wall 53 = .ok (.ifCond .ne 7, 3) := dk_154 0 7 (dk_at dksX0_wall_2 8 rfl rfl)
theorem dX0_wall_56 : decode cX0_wall 56 = .ok (.ldc_w 257, 3) := dk_19 1 1 (dk_at dksX0_wall_2 11 rfl rfl)
theorem dX0_wall_59 : decode cX0_wall 59 = .ok (.ireturn, 1) := dk_172 (dk_at dksX0_wall_2 14 rfl rfl)
theorem dX0_wall_60 : decode cX0_wall 60 = .ok (.new 439, 3) := dk_187 1 183 (dk_at dksX0_wall_2 15 rfl rfl)
theorem dX0_wall_63 : decode cX0_wall 63 = .ok (.dup, 1) := dk_89 (dk_at dksX0_wall_2 18 rfl rfl)
theorem dX0_wall_64 : decode cX0_wall 64 = .ok (.aload_n 0, 1) := dk_42 (dk_at dksX0_wall_2 19 rfl rfl)
theorem dX0_wall_65 : decode cX0_wall 65 = .ok (.getfield 217, 3) := dk_180 0 217 (dk_at dksX0_wall_2 20 rfl rfl)
theorem dX0_wall_68 : decode cX0_wall 68 = .ok (.iload_n 1, 1) := dk_27 (dk_at dksX0_wall_2 23 rfl rfl)
theorem dX0_wall_69 : decode cX0_wall 69 = .ok (.aaload, 1) := dk_50 (dk_at dksX0_wall_3 0 rfl rfl)
theorem dX0_wall_70 : decode cX0_wall 70 = .ok (.invokespecial 441, 3) := dk_183 1 185 (dk_at dksX0_wall_3 1 rfl rfl)
theorem dX0_wall_73 : decode cX0_wall 73 = .ok (.iload_n 2, 1) := dk_28 (dk_at dksX0_wall_3 4 rfl rfl)
theorem dX0_wall_74 : decode cX0_wall 74 = .ok (.iload_n 3, 1) := dk_29 (dk_at dksX0_wall_3 5 rfl rfl)
theorem dX0_wall_75 : decode cX0_wall 75 = .ok (.i2l, 1) := dk_133 (dk_at dksX0_wall_3 6 rfl rfl)
theorem dX0_wall_76 : decode cX0_wall 76 = .ok (.bipush 32, 2) := dk_16 32 (dk_at dksX0_wall_3 7 rfl rfl)
theorem dX0_wall_78 : decode cX0_wall 78 = .ok (.iload 4, 2) := dk_21 4 (dk_at dksX0_wall_3 9 rfl rfl)
theorem dX0_wall_80 : decode cX0_wall 80 = .ok (.isub, 1) := dk_100 (dk_at dksX0_wall_3 11 rfl rfl)
theorem dX0_wall_81 : decode cX0_wall 81 = .ok (.lshl, 1) := dk_121 (dk_at dksX0_wall_3 12 rfl rfl)
theorem dX0_wall_82 : decode cX0_wall 82 = .ok (.invokevirtual 444, 3) := dk_182 1 188 (dk_at dksX0_wall_3 13 rfl rfl)
theorem dX0_wall_85 : decode cX0_wall 85 = .ok (.iload 5, 2) := dk_21 5 (dk_at dksX0_wall_3 16 rfl rfl)
theorem dX0_wall_87 : decode cX0_wall 87 = .ok (.invokestatic 431, 3) := dk_184 1 175 (dk_at dksX0_wall_3 18 rfl rfl)
theorem dX0_wall_90 : decode cX0_wall 90 = .ok (.ireturn, 1) := dk_172 (dk_at dksX0_wall_3 21 rfl rfl)
abbrev cX0_undo : ByteArray := prog_1_method_70_code
def yX0_undo : MethodName := ⟨RX0, "undo", "()I"⟩
def dkwX0_undo_1 : List UInt8 := [76, 43, 3, 42, 180, 0, 217, 3, 16, 12, 184, 1, 201, 42, 180, 0, 223, 182, 1, 8, 172]
abbrev dktX0_undo_1 : List UInt8 := dkwX0_undo_1 ++ []
def dkwX0_undo_0 : List UInt8 := [42, 180, 0, 223, 182, 1, 195, 153, 0, 7, 19, 1, 110, 172, 42, 180, 0, 223, 182, 1, 198, 192, 1, 13]
abbrev dktX0_undo_0 : List UInt8 := dkwX0_undo_0 ++ dktX0_undo_1
theorem dksX0_undo_0 : cX0_undo.data.toList.drop 0 = dktX0_undo_0 := by decide +kernel
theorem dksX0_undo_1 : cX0_undo.data.toList.drop 24 = dktX0_undo_1 := dk_seg dksX0_undo_0 24 rfl rfl
theorem dX0_undo_0 : decode cX0_undo 0 = .ok (.aload_n 0, 1) := dk_42 (dk_at dksX0_undo_0 0 rfl rfl)
theorem dX0_undo_1 : decode cX0_undo 1 = .ok (.getfield 223, 3) := dk_180 0 223 (dk_at dksX0_undo_0 1 rfl rfl)
theorem dX0_undo_4 : decode cX0_undo 4 = .ok (.invokevirtual 451, 3) := dk_182 1 195 (dk_at dksX0_undo_0 4 rfl rfl)
theorem dX0_undo_7 : decode cX0_undo 7 = .ok (.ifCond .eq 7, 3) := dk_153 0 7 (dk_at dksX0_undo_0 7 rfl rfl)
theorem dX0_undo_10 : decode cX0_undo 10 = .ok (.ldc_w 366, 3) := dk_19 1 110 (dk_at dksX0_undo_0 10 rfl rfl)
theorem dX0_undo_13 : decode cX0_undo 13 = .ok (.ireturn, 1) := dk_172 (dk_at dksX0_undo_0 13 rfl rfl)
theorem dX0_undo_14 : decode cX0_undo 14 = .ok (.aload_n 0, 1) := dk_42 (dk_at dksX0_undo_0 14 rfl rfl)
theorem dX0_undo_15 : decode cX0_undo 15 = .ok (.getfield 223, 3) := dk_180 0 223 (dk_at dksX0_undo_0 15 rfl rfl)
theorem dX0_undo_18 : decode cX0_undo 18 = .ok (.invokevirtual 454, 3) := dk_182 1 198 (dk_at dksX0_undo_0 18 rfl rfl)
theorem dX0_undo_21 : decode cX0_undo 21 = .ok (.checkcast 269, 3) := dk_192 1 13 (dk_at dksX0_undo_0 21 rfl rfl)
theorem dX0_undo_24 : decode cX0_undo 24 = .ok (.astore_n 1, 1) := dk_76 (dk_at dksX0_undo_1 0 rfl rfl)
theorem dX0_undo_25 : decode cX0_undo 25 = .ok (.aload_n 1, 1) := dk_43 (dk_at dksX0_undo_1 1 rfl rfl)
theorem dX0_undo_26 : decode cX0_undo 26 = .ok (.iconst 0, 1) := dk_3 (dk_at dksX0_undo_1 2 rfl rfl)
theorem dX0_undo_27 : decode cX0_undo 27 = .ok (.aload_n 0, 1) := dk_42 (dk_at dksX0_undo_1 3 rfl rfl)
theorem dX0_undo_28 : decode cX0_undo 28 = .ok (.getfield 217, 3) := dk_180 0 217 (dk_at dksX0_undo_1 4 rfl rfl)
theorem dX0_undo_31 : decode cX0_undo 31 = .ok (.iconst 0, 1) := dk_3 (dk_at dksX0_undo_1 7 rfl rfl)
theorem dX0_undo_32 : decode cX0_undo 32 = .ok (.bipush 12, 2) := dk_16 12 (dk_at dksX0_undo_1 8 rfl rfl)
theorem dX0_undo_34 : decode cX0_undo 34 = .ok (.invokestatic 457, 3) := dk_184 1 201 (dk_at dksX0_undo_1 10 rfl rfl)
theorem dX0_undo_37 : decode cX0_undo 37 = .ok (.aload_n 0, 1) := dk_42 (dk_at dksX0_undo_1 13 rfl rfl)
theorem dX0_undo_38 : decode cX0_undo 38 = .ok (.getfield 223, 3) := dk_180 0 223 (dk_at dksX0_undo_1 14 rfl rfl)
theorem dX0_undo_41 : decode cX0_undo 41 = .ok (.invokevirtual 264, 3) := dk_182 1 8 (dk_at dksX0_undo_1 17 rfl rfl)
theorem dX0_undo_44 : decode cX0_undo 44 = .ok (.ireturn, 1) := dk_172 (dk_at dksX0_undo_1 20 rfl rfl)
theorem q132 : (Jvm.Cond.initialized "GameCalculator") ∈ lw_all := lw_g (lw_at lw_m1 1 rfl) rfl
theorem q185 : (Jvm.Cond.instantiable "GameCalculator" (10 : Nat)) ∈ lw_all := lw_g (lw_at lw_m1 54 rfl) rfl
theorem q187 : (Jvm.Cond.instanceMethod ({ cls := "GameCalculator", name := "<init>", desc := "()V" } : Jvm.MethodName)) ∈ lw_all := lw_g (lw_at lw_m1 56 rfl) rfl
theorem q188 : (Jvm.Cond.code ({ cls := "GameCalculator", name := "<init>", desc := "()V" } : Jvm.MethodName) prog_1_method_22_code (2 : Nat) (Option.none : Option Jvm.ClassFile.FieldType)) ∈ lw_all := lw_g (lw_at lw_m1 57 rfl) rfl
theorem q189 : (Jvm.Cond.methodLink "GameCalculator" (212 : Nat) ({ cls := "java/lang/Object", name := "<init>", desc := "()V" } : Jvm.MethodName)) ∈ lw_all := lw_g (lw_at lw_m1 58 rfl) rfl
theorem q192 : (Jvm.Cond.classLink "GameCalculator" (10 : Nat) "GameCalculator$Arena") ∈ lw_all := lw_g (lw_at lw_m1 61 rfl) rfl
theorem q194 : (Jvm.Cond.methodLinkNest "GameCalculator" (215 : Nat) ({ cls := "GameCalculator$Arena", name := "<init>", desc := "()V" } : Jvm.MethodName) "GameCalculator") ∈ lw_tbl := lw_at lw_m1 63 rfl
theorem q243 : (Jvm.Cond.fieldLinkNest "GameCalculator" (70 : Nat) "GameCalculator$Game" "left" "Ljava/util/List;" "GameCalculator") ∈ lw_tbl := lw_at lw_m1 112 rfl
theorem q246 : (Jvm.Cond.fieldLinkNest "GameCalculator" (78 : Nat) "GameCalculator$Game" "right" "Ljava/util/List;" "GameCalculator") ∈ lw_tbl := lw_at lw_m1 115 rfl
theorem q248 : (Jvm.Cond.fieldLinkNest "GameCalculator" (422 : Nat) "GameCalculator$Game" "birthday" "I" "GameCalculator") ∈ lw_tbl := lw_at lw_m1 117 rfl
theorem q276 : (Jvm.Cond.classLink "GameCalculator" (216 : Nat) "[[LGameCalculator$Game;") ∈ lw_all := lw_g (lw_at lw_m1 145 rfl) rfl
theorem q280 : (Jvm.Cond.classLink "GameCalculator" (16 : Nat) "GameCalculator$Form") ∈ lw_all := lw_g (lw_at lw_m1 149 rfl) rfl
theorem q282 : (Jvm.Cond.classLink "GameCalculator" (220 : Nat) "java/util/ArrayDeque") ∈ lw_all := lw_g (lw_at lw_m1 151 rfl) rfl
theorem q284 : (Jvm.Cond.methodLink "GameCalculator" (222 : Nat) ({ cls := "java/util/ArrayDeque", name := "<init>", desc := "()V" } : Jvm.MethodName)) ∈ lw_all := lw_g (lw_at lw_m1 153 rfl) rfl
theorem q300 : (Jvm.Cond.classLink "GameCalculator" (227 : Nat) "java/util/LinkedList") ∈ lw_all := lw_g (lw_at lw_m1 169 rfl) rfl
theorem q302 : (Jvm.Cond.methodLink "GameCalculator" (229 : Nat) ({ cls := "java/util/LinkedList", name := "<init>", desc := "()V" } : Jvm.MethodName)) ∈ lw_all := lw_g (lw_at lw_m1 171 rfl) rfl
theorem q321 : (Jvm.Cond.classLink "GameCalculator" (154 : Nat) "java/util/BitSet") ∈ lw_all := lw_g (lw_at lw_m1 190 rfl) rfl
theorem q323 : (Jvm.Cond.methodLink "GameCalculator" (159 : Nat) ({ cls := "java/util/BitSet", name := "<init>", desc := "()V" } : Jvm.MethodName)) ∈ lw_all := lw_g (lw_at lw_m1 192 rfl) rfl
theorem q345 : (Jvm.Cond.classLink "GameCalculator" (240 : Nat) "java/lang/StringBuilder") ∈ lw_all := lw_g (lw_at lw_m1 214 rfl) rfl
theorem q347 : (Jvm.Cond.methodLink "GameCalculator" (242 : Nat) ({ cls := "java/lang/StringBuilder", name := "<init>", desc := "()V" } : Jvm.MethodName)) ∈ lw_all := lw_g (lw_at lw_m1 216 rfl) rfl
theorem q378 : (Jvm.Cond.methodLink "GameCalculator" (247 : Nat) ({ cls := "GameCalculator$Form", name := "<init>", desc := "(I)V" } : Jvm.MethodName)) ∈ lw_all := lw_g (lw_at lw_m2 7 rfl) rfl
theorem q384 : (Jvm.Cond.fieldLinkNest "GameCalculator" (15 : Nat) "GameCalculator$Form" "count" "I" "GameCalculator") ∈ lw_tbl := lw_at lw_m2 13 rfl
theorem q388 : (Jvm.Cond.fieldLinkNest "GameCalculator" (81 : Nat) "GameCalculator$Form" "lefts" "[I" "GameCalculator") ∈ lw_tbl := lw_at lw_m2 17 rfl
theorem q392 : (Jvm.Cond.fieldLinkNest "GameCalculator" (88 : Nat) "GameCalculator$Form" "rights" "[I" "GameCalculator") ∈ lw_tbl := lw_at lw_m2 21 rfl
theorem q402 : (Jvm.Cond.fieldLink "GameCalculator" (5 : Nat) "GameCalculator" "arena" "LGameCalculator$Arena;") ∈ lw_all := lw_g (lw_at lw_m2 31 rfl) rfl
theorem q403 : (Jvm.Cond.fieldLink "GameCalculator" (30 : Nat) "GameCalculator" "sums" "[[LGameCalculator$Game;") ∈ lw_all := lw_g (lw_at lw_m2 32 rfl) rfl
theorem q404 : (Jvm.Cond.fieldLink "GameCalculator" (119 : Nat) "GameCalculator" "ups" "[LGameCalculator$Form;") ∈ lw_all := lw_g (lw_at lw_m2 33 rfl) rfl
theorem q406 : (Jvm.Cond.fieldLink "GameCalculator" (217 : Nat) "GameCalculator" "slots" "[LGameCalculator$Form;") ∈ lw_all := lw_g (lw_at lw_m2 35 rfl) rfl
theorem q407 : (Jvm.Cond.fieldLink "GameCalculator" (223 : Nat) "GameCalculator" "history" "Ljava/util/ArrayDeque;") ∈ lw_all := lw_g (lw_at lw_m2 36 rfl) rfl
theorem q408 : (Jvm.Cond.fieldLink "GameCalculator" (230 : Nat) "GameCalculator" "draftLeft" "Ljava/util/List;") ∈ lw_all := lw_g (lw_at lw_m2 37 rfl) rfl
theorem q409 : (Jvm.Cond.fieldLink "GameCalculator" (233 : Nat) "GameCalculator" "draftRight" "Ljava/util/List;") ∈ lw_all := lw_g (lw_at lw_m2 38 rfl) rfl
theorem q410 : (Jvm.Cond.fieldLink "GameCalculator" (236 : Nat) "GameCalculator" "signs" "Ljava/util/BitSet;") ∈ lw_all := lw_g (lw_at lw_m2 39 rfl) rfl
theorem q411 : (Jvm.Cond.fieldLink "GameCalculator" (382 : Nat) "GameCalculator" "signCount" "I") ∈ lw_all := lw_g (lw_at lw_m2 40 rfl) rfl
theorem q413 : (Jvm.Cond.fieldLink "GameCalculator" (243 : Nat) "GameCalculator" "text" "Ljava/lang/StringBuilder;") ∈ lw_all := lw_g (lw_at lw_m2 42 rfl) rfl
theorem q414 : (Jvm.Cond.laysFinal "GameCalculator" "GameCalculator" "arena" "LGameCalculator$Arena;") ∈ lw_all := lw_g (lw_at lw_m2 43 rfl) rfl
theorem q415 : (Jvm.Cond.soleField "GameCalculator" "arena") ∈ lw_all := lw_g (lw_at lw_m2 44 rfl) rfl
theorem q416 : (Jvm.Cond.laysFinal "GameCalculator" "GameCalculator" "sums" "[[LGameCalculator$Game;") ∈ lw_all := lw_g (lw_at lw_m2 45 rfl) rfl
theorem q417 : (Jvm.Cond.soleField "GameCalculator" "sums") ∈ lw_all := lw_g (lw_at lw_m2 46 rfl) rfl
theorem q418 : (Jvm.Cond.laysFinal "GameCalculator" "GameCalculator" "ups" "[LGameCalculator$Form;") ∈ lw_all := lw_g (lw_at lw_m2 47 rfl) rfl
theorem q419 : (Jvm.Cond.soleField "GameCalculator" "ups") ∈ lw_all := lw_g (lw_at lw_m2 48 rfl) rfl
theorem q420 : (Jvm.Cond.laysFinal "GameCalculator" "GameCalculator" "slots" "[LGameCalculator$Form;") ∈ lw_all := lw_g (lw_at lw_m2 49 rfl) rfl
theorem q421 : (Jvm.Cond.soleField "GameCalculator" "slots") ∈ lw_all := lw_g (lw_at lw_m2 50 rfl) rfl
theorem q422 : (Jvm.Cond.laysFinal "GameCalculator" "GameCalculator" "history" "Ljava/util/ArrayDeque;") ∈ lw_all := lw_g (lw_at lw_m2 51 rfl) rfl
theorem q423 : (Jvm.Cond.soleField "GameCalculator" "history") ∈ lw_all := lw_g (lw_at lw_m2 52 rfl) rfl
theorem q424 : (Jvm.Cond.laysFinal "GameCalculator" "GameCalculator" "draftLeft" "Ljava/util/List;") ∈ lw_all := lw_g (lw_at lw_m2 53 rfl) rfl
theorem q425 : (Jvm.Cond.soleField "GameCalculator" "draftLeft") ∈ lw_all := lw_g (lw_at lw_m2 54 rfl) rfl
theorem q426 : (Jvm.Cond.laysFinal "GameCalculator" "GameCalculator" "draftRight" "Ljava/util/List;") ∈ lw_all := lw_g (lw_at lw_m2 55 rfl) rfl
theorem q427 : (Jvm.Cond.soleField "GameCalculator" "draftRight") ∈ lw_all := lw_g (lw_at lw_m2 56 rfl) rfl
theorem q428 : (Jvm.Cond.laysFinal "GameCalculator" "GameCalculator" "signs" "Ljava/util/BitSet;") ∈ lw_all := lw_g (lw_at lw_m2 57 rfl) rfl
theorem q429 : (Jvm.Cond.soleField "GameCalculator" "signs") ∈ lw_all := lw_g (lw_at lw_m2 58 rfl) rfl
theorem q430 : (Jvm.Cond.lays "GameCalculator" "GameCalculator" "signCount" "I") ∈ lw_all := lw_g (lw_at lw_m2 59 rfl) rfl
theorem q431 : (Jvm.Cond.soleField "GameCalculator" "signCount") ∈ lw_all := lw_g (lw_at lw_m2 60 rfl) rfl
theorem q432 : (Jvm.Cond.laysFinal "GameCalculator" "GameCalculator" "text" "Ljava/lang/StringBuilder;") ∈ lw_all := lw_g (lw_at lw_m2 61 rfl) rfl
theorem q433 : (Jvm.Cond.soleField "GameCalculator" "text") ∈ lw_all := lw_g (lw_at lw_m2 62 rfl) rfl
theorem q434 : (Jvm.Cond.superclass "GameCalculator" "java/lang/Object") ∈ lw_all := lw_g (lw_at lw_m2 63 rfl) rfl
theorem q436 : (Jvm.Cond.instanceMethod ({ cls := "GameCalculator", name := "setNumber", desc := "(III)I" } : Jvm.MethodName)) ∈ lw_all := lw_g (lw_at lw_m2 65 rfl) rfl
theorem q437 : (Jvm.Cond.selects "GameCalculator" ({ cls := "GameCalculator", name := "setNumber", desc := "(III)I" } : Jvm.MethodName) ({ cls := "GameCalculator", name := "setNumber", desc := "(III)I" } : Jvm.MethodName)) ∈ lw_all := lw_g (lw_at lw_m2 66 rfl) rfl
theorem q438 : (Jvm.Cond.code ({ cls := "GameCalculator", name := "setNumber", desc := "(III)I" } : Jvm.MethodName) prog_1_method_27_code (5 : Nat) (Option.some Jvm.ClassFile.FieldType.int)) ∈ lw_all := lw_g (lw_at lw_m2 67 rfl) rfl
theorem q439 : (Jvm.Cond.methodLink "GameCalculator" (250 : Nat) ({ cls := "GameCalculator", name := "isBetween", desc := "(III)Z" } : Jvm.MethodName)) ∈ lw_all := lw_g (lw_at lw_m2 68 rfl) rfl
theorem q440 : (Jvm.Cond.static ({ cls := "GameCalculator", name := "isBetween", desc := "(III)Z" } : Jvm.MethodName)) ∈ lw_all := lw_g (lw_at lw_m2 69 rfl) rfl
theorem q441 : (Jvm.Cond.code ({ cls := "GameCalculator", name := "isBetween", desc := "(III)Z" } : Jvm.MethodName) prog_1_method_1_code (3 : Nat) (Option.some Jvm.ClassFile.FieldType.boolean)) ∈ lw_all := lw_g (lw_at lw_m2 70 rfl) rfl
theorem q442 : (Jvm.Cond.privateMethod ({ cls := "GameCalculator", name := "lambda$setNumber$0", desc := "(II)LGameCalculator$Form;" } : Jvm.MethodName)) ∈ lw_tbl := lw_at lw_m2 71 rfl
theorem q443 : (Jvm.Cond.instanceMethod ({ cls := "GameCalculator", name := "lambda$setNumber$0", desc := "(II)LGameCalculator$Form;" } : Jvm.MethodName)) ∈ lw_all := lw_g (lw_at lw_m2 72 rfl) rfl
theorem q444 : (Jvm.Cond.code ({ cls := "GameCalculator", name := "lambda$setNumber$0", desc := "(II)LGameCalculator$Form;" } : Jvm.MethodName) prog_1_method_85_code (3 : Nat) (Option.some (Jvm.ClassFile.FieldType.object "GameCalculator$Form"))) ∈ lw_all := lw_g (lw_at lw_m2 73 rfl) rfl
theorem q445 : (Jvm.Cond.methodLink "GameCalculator" (363 : Nat) ({ cls := "GameCalculator", name := "numberForm", desc := "(J)LGameCalculator$Form;" } : Jvm.MethodName)) ∈ lw_all := lw_g (lw_at lw_m2 74 rfl) rfl
theorem q446 : (Jvm.Cond.privateMethod ({ cls := "GameCalculator", name := "numberForm", desc := "(J)LGameCalculator$Form;" } : Jvm.MethodName)) ∈ lw_tbl := lw_at lw_m2 75 rfl
theorem q447 : (Jvm.Cond.instanceMethod ({ cls := "GameCalculator", name := "numberForm", desc := "(J)LGameCalculator$Form;" } : Jvm.MethodName)) ∈ lw_all := lw_g (lw_at lw_m2 76 rfl) rfl
theorem q448 : (Jvm.Cond.code ({ cls := "GameCalculator", name := "numberForm", desc := "(J)LGameCalculator$Form;" } : Jvm.MethodName) prog_1_method_16_code (3 : Nat) (Option.some (Jvm.ClassFile.FieldType.object "GameCalculator$Form"))) ∈ lw_all := lw_g (lw_at lw_m2 77 rfl) rfl
theorem q449 : (Jvm.Cond.methodLink "GameCalculator" (183 : Nat) ({ cls := "GameCalculator", name := "numberBetween", desc := "(JJ)LGameCalculator$Form;" } : Jvm.MethodName)) ∈ lw_all := lw_g (lw_at lw_m2 78 rfl) rfl
theorem q450 : (Jvm.Cond.privateMethod ({ cls := "GameCalculator", name := "numberBetween", desc := "(JJ)LGameCalculator$Form;" } : Jvm.MethodName)) ∈ lw_tbl := lw_at lw_m2 79 rfl
theorem q451 : (Jvm.Cond.instanceMethod ({ cls := "GameCalculator", name := "numberBetween", desc := "(JJ)LGameCalculator$Form;" } : Jvm.MethodName)) ∈ lw_all := lw_g (lw_at lw_m2 80 rfl) rfl
theorem q452 : (Jvm.Cond.code ({ cls := "GameCalculator", name := "numberBetween", desc := "(JJ)LGameCalculator$Form;" } : Jvm.MethodName) prog_1_method_14_code (8 : Nat) (Option.some (Jvm.ClassFile.FieldType.object "GameCalculator$Form"))) ∈ lw_all := lw_g (lw_at lw_m2 81 rfl) rfl
theorem q453 : (Jvm.Cond.classLink "GameCalculator" (160 : Nat) "GameCalculator$Walk") ∈ lw_all := lw_g (lw_at lw_m2 82 rfl) rfl
theorem q455 : (Jvm.Cond.methodLinkNest "GameCalculator" (162 : Nat) ({ cls := "GameCalculator$Walk", name := "<init>", desc := "()V" } : Jvm.MethodName) "GameCalculator") ∈ lw_tbl := lw_at lw_m2 84 rfl
theorem q460 : (Jvm.Cond.fieldLinkNest "GameCalculator" (163 : Nat) "GameCalculator$Walk" "value" "J" "GameCalculator") ∈ lw_tbl := lw_at lw_m2 89 rfl
theorem q466 : (Jvm.Cond.fieldLinkNest "GameCalculator" (171 : Nat) "GameCalculator$Walk" "count" "I" "GameCalculator") ∈ lw_tbl := lw_at lw_m2 95 rfl
theorem q480 : (Jvm.Cond.methodLink "GameCalculator" (167 : Nat) ({ cls := "GameCalculator", name := "isBelow", desc := "(JJJ)Z" } : Jvm.MethodName)) ∈ lw_all := lw_g (lw_at lw_m2 109 rfl) rfl
theorem q481 : (Jvm.Cond.static ({ cls := "GameCalculator", name := "isBelow", desc := "(JJJ)Z" } : Jvm.MethodName)) ∈ lw_all := lw_g (lw_at lw_m2 110 rfl) rfl
theorem q482 : (Jvm.Cond.code ({ cls := "GameCalculator", name := "isBelow", desc := "(JJJ)Z" } : Jvm.MethodName) prog_1_method_15_code (6 : Nat) (Option.some Jvm.ClassFile.FieldType.boolean)) ∈ lw_all := lw_g (lw_at lw_m2 111 rfl) rfl
theorem q483 : (Jvm.Cond.classLink "GameCalculator" (21 : Nat) "GameCalculator$LimitException") ∈ lw_all := lw_g (lw_at lw_m2 112 rfl) rfl
theorem q524 : (Jvm.Cond.methodLink "GameCalculator" (23 : Nat) ({ cls := "GameCalculator$LimitException", name := "<init>", desc := "()V" } : Jvm.MethodName)) ∈ lw_all := lw_g (lw_at lw_m2 153 rfl) rfl
theorem q547 : (Jvm.Cond.methodLink "GameCalculator" (172 : Nat) ({ cls := "java/util/BitSet", name := "set", desc := "(IZ)V" } : Jvm.MethodName)) ∈ lw_all := lw_g (lw_at lw_m2 176 rfl) rfl
theorem q597 : (Jvm.Cond.methodLink "GameCalculator" (175 : Nat) ({ cls := "GameCalculator$Walk", name := "step", desc := "(Z)V" } : Jvm.MethodName)) ∈ lw_all := lw_g (lw_at lw_m2 226 rfl) rfl
theorem q603 : (Jvm.Cond.methodLink "GameCalculator" (179 : Nat) ({ cls := "GameCalculator", name := "numberForm", desc := "(Ljava/util/BitSet;I)LGameCalculator$Form;" } : Jvm.MethodName)) ∈ lw_all := lw_g (lw_at lw_m2 232 rfl) rfl
theorem q604 : (Jvm.Cond.privateMethod ({ cls := "GameCalculator", name := "numberForm", desc := "(Ljava/util/BitSet;I)LGameCalculator$Form;" } : Jvm.MethodName)) ∈ lw_tbl := lw_at lw_m2 233 rfl
theorem q605 : (Jvm.Cond.instanceMethod ({ cls := "GameCalculator", name := "numberForm", desc := "(Ljava/util/BitSet;I)LGameCalculator$Form;" } : Jvm.MethodName)) ∈ lw_all := lw_g (lw_at lw_m2 234 rfl) rfl
theorem q606 : (Jvm.Cond.code ({ cls := "GameCalculator", name := "numberForm", desc := "(Ljava/util/BitSet;I)LGameCalculator$Form;" } : Jvm.MethodName) prog_1_method_13_code (9 : Nat) (Option.some (Jvm.ClassFile.FieldType.object "GameCalculator$Form"))) ∈ lw_all := lw_g (lw_at lw_m2 235 rfl) rfl
theorem q607 : (Jvm.Cond.methodLink "GameCalculator" (26 : Nat) ({ cls := "GameCalculator", name := "emptyArena", desc := "()LGameCalculator$Arena;" } : Jvm.MethodName)) ∈ lw_all := lw_g (lw_at lw_m2 236 rfl) rfl
theorem q608 : (Jvm.Cond.privateMethod ({ cls := "GameCalculator", name := "emptyArena", desc := "()LGameCalculator$Arena;" } : Jvm.MethodName)) ∈ lw_tbl := lw_at lw_m2 237 rfl
theorem q609 : (Jvm.Cond.instanceMethod ({ cls := "GameCalculator", name := "emptyArena", desc := "()LGameCalculator$Arena;" } : Jvm.MethodName)) ∈ lw_all := lw_g (lw_at lw_m2 238 rfl) rfl
theorem q610 : (Jvm.Cond.code ({ cls := "GameCalculator", name := "emptyArena", desc := "()LGameCalculator$Arena;" } : Jvm.MethodName) prog_1_method_2_code (1 : Nat) (Option.some (Jvm.ClassFile.FieldType.object "GameCalculator$Arena"))) ∈ lw_all := lw_g (lw_at lw_m2 239 rfl) rfl
theorem q611 : (Jvm.Cond.methodLink "GameCalculator" (9 : Nat) ({ cls := "GameCalculator$Arena", name := "clear", desc := "()V" } : Jvm.MethodName)) ∈ lw_all := lw_g (lw_at lw_m3 0 rfl) rfl
theorem q656 : (Jvm.Cond.methodLink "GameCalculator" (46 : Nat) ({ cls := "GameCalculator$Arena", name := "list", desc := "()Ljava/util/List;" } : Jvm.MethodName)) ∈ lw_all := lw_g (lw_at lw_m3 45 rfl) rfl
theorem q738 : (Jvm.Cond.methodLink "GameCalculator" (147 : Nat) ({ cls := "java/util/List", name := "of", desc := "()Ljava/util/List;" } : Jvm.MethodName)) ∈ lw_all := lw_g (lw_at lw_m3 127 rfl) rfl
theorem q743 : (Jvm.Cond.methodLinkNest "GameCalculator" (150 : Nat) ({ cls := "GameCalculator$Arena", name := "intern", desc := "(Ljava/util/List;Ljava/util/List;)LGameCalculator$Game;" } : Jvm.MethodName) "GameCalculator") ∈ lw_tbl := lw_at lw_m3 132 rfl
theorem q816 : (Jvm.Cond.selects "GameCalculator" ({ cls := "java/lang/Object", name := "getClass", desc := "()Ljava/lang/Class;" } : Jvm.MethodName) ({ cls := "java/lang/Object", name := "getClass", desc := "()Ljava/lang/Class;" } : Jvm.MethodName)) ∈ lw_all := lw_g (lw_at lw_m3 205 rfl) rfl
theorem q906 : (Jvm.Cond.methodLink "GameCalculator" (153 : Nat) ({ cls := "java/util/BitSet", name := "get", desc := "(I)Z" } : Jvm.MethodName)) ∈ lw_all := lw_g (lw_at lw_m4 55 rfl) rfl
theorem q910 : (Jvm.Cond.interfaceEntry "GameCalculator" (158 : Nat)) ∈ lw_tbl := lw_at lw_m4 59 rfl
theorem q911 : (Jvm.Cond.methodLink "GameCalculator" (158 : Nat) ({ cls := "java/util/List", name := "clear", desc := "()V" } : Jvm.MethodName)) ∈ lw_all := lw_g (lw_at lw_m4 60 rfl) rfl
theorem q912 : (Jvm.Cond.interfaceEntry "GameCalculator" (112 : Nat)) ∈ lw_tbl := lw_at lw_m4 61 rfl
theorem q913 : (Jvm.Cond.methodLink "GameCalculator" (112 : Nat) ({ cls := "java/util/List", name := "add", desc := "(Ljava/lang/Object;)Z" } : Jvm.MethodName)) ∈ lw_all := lw_g (lw_at lw_m4 62 rfl) rfl
theorem q914 : (Jvm.Cond.methodLink "GameCalculator" (115 : Nat) ({ cls := "GameCalculator$Arena", name := "giveBack", desc := "(Ljava/util/List;)V" } : Jvm.MethodName)) ∈ lw_all := lw_g (lw_at lw_m4 63 rfl) rfl
theorem q918 : (Jvm.Cond.methodLink "GameCalculator" (42 : Nat) ({ cls := "GameCalculator$Arena", name := "form", desc := "(LGameCalculator$Game;)LGameCalculator$Form;" } : Jvm.MethodName)) ∈ lw_all := lw_g (lw_at lw_m4 67 rfl) rfl
theorem q1008 : (Jvm.Cond.methodLink "GameCalculator" (280 : Nat) ({ cls := "GameCalculator", name := "put", desc := "(ZILGameCalculator$Maker;)I" } : Jvm.MethodName)) ∈ lw_all := lw_g (lw_at lw_m4 157 rfl) rfl
theorem q1009 : (Jvm.Cond.privateMethod ({ cls := "GameCalculator", name := "put", desc := "(ZILGameCalculator$Maker;)I" } : Jvm.MethodName)) ∈ lw_tbl := lw_at lw_m4 158 rfl
theorem q1010 : (Jvm.Cond.instanceMethod ({ cls := "GameCalculator", name := "put", desc := "(ZILGameCalculator$Maker;)I" } : Jvm.MethodName)) ∈ lw_all := lw_g (lw_at lw_m4 159 rfl) rfl
theorem q1011 : (Jvm.Cond.codeWith ({ cls := "GameCalculator", name := "put", desc := "(ZILGameCalculator$Maker;)I" } : Jvm.MethodName) prog_1_method_25_code (6 : Nat) (Option.some Jvm.ClassFile.FieldType.int) [((15 : Nat), (23 : Nat), (26 : Nat), (21 : Nat))]) ∈ lw_all := lw_g (lw_at lw_m4 160 rfl) rfl
theorem q1012 : (Jvm.Cond.methodLink "GameCalculator" (254 : Nat) ({ cls := "GameCalculator", name := "isSlot", desc := "(I)Z" } : Jvm.MethodName)) ∈ lw_all := lw_g (lw_at lw_m4 161 rfl) rfl
theorem q1013 : (Jvm.Cond.static ({ cls := "GameCalculator", name := "isSlot", desc := "(I)Z" } : Jvm.MethodName)) ∈ lw_all := lw_g (lw_at lw_m4 162 rfl) rfl
theorem q1014 : (Jvm.Cond.code ({ cls := "GameCalculator", name := "isSlot", desc := "(I)Z" } : Jvm.MethodName) prog_1_method_23_code (1 : Nat) (Option.some Jvm.ClassFile.FieldType.boolean)) ∈ lw_all := lw_g (lw_at lw_m4 163 rfl) rfl
theorem q1015 : (Jvm.Cond.constant "GameCalculator" (257 : Nat) (-2000000001 : Int32)) ∈ lw_all := lw_g (lw_at lw_m4 164 rfl) rfl
theorem q1016 : (Jvm.Cond.interfaceEntry "GameCalculator" (258 : Nat)) ∈ lw_tbl := lw_at lw_m4 165 rfl
theorem q1017 : (Jvm.Cond.methodLink "GameCalculator" (258 : Nat) ({ cls := "GameCalculator$Maker", name := "make", desc := "()LGameCalculator$Form;" } : Jvm.MethodName)) ∈ lw_all := lw_g (lw_at lw_m4 166 rfl) rfl
theorem q1020 : (Jvm.Cond.constant "GameCalculator" (263 : Nat) (-2000000004 : Int32)) ∈ lw_all := lw_g (lw_at lw_m4 169 rfl) rfl
theorem q1021 : (Jvm.Cond.methodLink "GameCalculator" (264 : Nat) ({ cls := "java/util/ArrayDeque", name := "size", desc := "()I" } : Jvm.MethodName)) ∈ lw_all := lw_g (lw_at lw_m4 170 rfl) rfl
theorem q1022 : (Jvm.Cond.methodLink "GameCalculator" (265 : Nat) ({ cls := "java/util/ArrayDeque", name := "removeFirst", desc := "()Ljava/lang/Object;" } : Jvm.MethodName)) ∈ lw_all := lw_g (lw_at lw_m4 171 rfl) rfl
theorem q1036 : (Jvm.Cond.classLink "GameCalculator" (269 : Nat) "[LGameCalculator$Form;") ∈ lw_all := lw_g (lw_at lw_m4 185 rfl) rfl
theorem q1037 : (Jvm.Cond.methodLink "GameCalculator" (270 : Nat) ({ cls := "[LGameCalculator$Form;", name := "clone", desc := "()Ljava/lang/Object;" } : Jvm.MethodName)) ∈ lw_all := lw_g (lw_at lw_m4 186 rfl) rfl
theorem q1041 : (Jvm.Cond.methodLink "GameCalculator" (273 : Nat) ({ cls := "java/util/ArrayDeque", name := "addLast", desc := "(Ljava/lang/Object;)V" } : Jvm.MethodName)) ∈ lw_all := lw_g (lw_at lw_m4 190 rfl) rfl
theorem q1057 : (Jvm.Cond.methodLink "GameCalculator" (284 : Nat) ({ cls := "GameCalculator", name := "birthdayOf", desc := "(I)I" } : Jvm.MethodName)) ∈ lw_all := lw_g (lw_at lw_m4 206 rfl) rfl
theorem q1058 : (Jvm.Cond.static ({ cls := "GameCalculator", name := "birthdayOf", desc := "(I)I" } : Jvm.MethodName)) ∈ lw_all := lw_g (lw_at lw_m4 207 rfl) rfl
theorem q1059 : (Jvm.Cond.code ({ cls := "GameCalculator", name := "birthdayOf", desc := "(I)I" } : Jvm.MethodName) prog_1_method_26_code (1 : Nat) (Option.some Jvm.ClassFile.FieldType.int)) ∈ lw_all := lw_g (lw_at lw_m4 208 rfl) rfl
theorem q1061 : (Jvm.Cond.instanceMethod ({ cls := "GameCalculator", name := "setNimber", desc := "(II)I" } : Jvm.MethodName)) ∈ lw_all := lw_g (lw_at lw_m4 210 rfl) rfl
theorem q1062 : (Jvm.Cond.selects "GameCalculator" ({ cls := "GameCalculator", name := "setNimber", desc := "(II)I" } : Jvm.MethodName) ({ cls := "GameCalculator", name := "setNimber", desc := "(II)I" } : Jvm.MethodName)) ∈ lw_all := lw_g (lw_at lw_m4 211 rfl) rfl
theorem q1063 : (Jvm.Cond.code ({ cls := "GameCalculator", name := "setNimber", desc := "(II)I" } : Jvm.MethodName) prog_1_method_28_code (3 : Nat) (Option.some Jvm.ClassFile.FieldType.int)) ∈ lw_all := lw_g (lw_at lw_m4 212 rfl) rfl
theorem q1064 : (Jvm.Cond.privateMethod ({ cls := "GameCalculator", name := "lambda$setNimber$1", desc := "(I)LGameCalculator$Form;" } : Jvm.MethodName)) ∈ lw_tbl := lw_at lw_m4 213 rfl
theorem q1065 : (Jvm.Cond.instanceMethod ({ cls := "GameCalculator", name := "lambda$setNimber$1", desc := "(I)LGameCalculator$Form;" } : Jvm.MethodName)) ∈ lw_all := lw_g (lw_at lw_m4 214 rfl) rfl
theorem q1066 : (Jvm.Cond.code ({ cls := "GameCalculator", name := "lambda$setNimber$1", desc := "(I)LGameCalculator$Form;" } : Jvm.MethodName) prog_1_method_84_code (2 : Nat) (Option.some (Jvm.ClassFile.FieldType.object "GameCalculator$Form"))) ∈ lw_all := lw_g (lw_at lw_m4 215 rfl) rfl
theorem q1067 : (Jvm.Cond.methodLink "GameCalculator" (123 : Nat) ({ cls := "GameCalculator", name := "nimberForm", desc := "(I)LGameCalculator$Form;" } : Jvm.MethodName)) ∈ lw_all := lw_g (lw_at lw_m4 216 rfl) rfl
theorem q1068 : (Jvm.Cond.privateMethod ({ cls := "GameCalculator", name := "nimberForm", desc := "(I)LGameCalculator$Form;" } : Jvm.MethodName)) ∈ lw_tbl := lw_at lw_m4 217 rfl
theorem q1069 : (Jvm.Cond.instanceMethod ({ cls := "GameCalculator", name := "nimberForm", desc := "(I)LGameCalculator$Form;" } : Jvm.MethodName)) ∈ lw_all := lw_g (lw_at lw_m4 218 rfl) rfl
theorem q1070 : (Jvm.Cond.code ({ cls := "GameCalculator", name := "nimberForm", desc := "(I)LGameCalculator$Form;" } : Jvm.MethodName) prog_1_method_11_code (6 : Nat) (Option.some (Jvm.ClassFile.FieldType.object "GameCalculator$Form"))) ∈ lw_all := lw_g (lw_at lw_m4 219 rfl) rfl
theorem q1071 : (Jvm.Cond.methodLink "GameCalculator" (109 : Nat) ({ cls := "GameCalculator$Arena", name := "make", desc := "(Ljava/util/List;Ljava/util/List;)LGameCalculator$Game;" } : Jvm.MethodName)) ∈ lw_all := lw_g (lw_at lw_m4 220 rfl) rfl
theorem q1118 : (Jvm.Cond.instanceMethod ({ cls := "GameCalculator", name := "setUp", desc := "(III)I" } : Jvm.MethodName)) ∈ lw_all := lw_g (lw_at lw_m5 27 rfl) rfl
theorem q1119 : (Jvm.Cond.selects "GameCalculator" ({ cls := "GameCalculator", name := "setUp", desc := "(III)I" } : Jvm.MethodName) ({ cls := "GameCalculator", name := "setUp", desc := "(III)I" } : Jvm.MethodName)) ∈ lw_all := lw_g (lw_at lw_m5 28 rfl) rfl
theorem q1120 : (Jvm.Cond.code ({ cls := "GameCalculator", name := "setUp", desc := "(III)I" } : Jvm.MethodName) prog_1_method_29_code (4 : Nat) (Option.some Jvm.ClassFile.FieldType.int)) ∈ lw_all := lw_g (lw_at lw_m5 29 rfl) rfl
theorem q1121 : (Jvm.Cond.privateMethod ({ cls := "GameCalculator", name := "lambda$setUp$2", desc := "(II)LGameCalculator$Form;" } : Jvm.MethodName)) ∈ lw_tbl := lw_at lw_m5 30 rfl
theorem q1122 : (Jvm.Cond.instanceMethod ({ cls := "GameCalculator", name := "lambda$setUp$2", desc := "(II)LGameCalculator$Form;" } : Jvm.MethodName)) ∈ lw_all := lw_g (lw_at lw_m5 31 rfl) rfl
theorem q1123 : (Jvm.Cond.code ({ cls := "GameCalculator", name := "lambda$setUp$2", desc := "(II)LGameCalculator$Form;" } : Jvm.MethodName) prog_1_method_83_code (3 : Nat) (Option.some (Jvm.ClassFile.FieldType.object "GameCalculator$Form"))) ∈ lw_all := lw_g (lw_at lw_m5 32 rfl) rfl
theorem q1124 : (Jvm.Cond.methodLink "GameCalculator" (435 : Nat) ({ cls := "GameCalculator", name := "upForm", desc := "(II)LGameCalculator$Form;" } : Jvm.MethodName)) ∈ lw_all := lw_g (lw_at lw_m5 33 rfl) rfl
theorem q1125 : (Jvm.Cond.privateMethod ({ cls := "GameCalculator", name := "upForm", desc := "(II)LGameCalculator$Form;" } : Jvm.MethodName)) ∈ lw_tbl := lw_at lw_m5 34 rfl
theorem q1126 : (Jvm.Cond.instanceMethod ({ cls := "GameCalculator", name := "upForm", desc := "(II)LGameCalculator$Form;" } : Jvm.MethodName)) ∈ lw_all := lw_g (lw_at lw_m5 35 rfl) rfl
theorem q1127 : (Jvm.Cond.code ({ cls := "GameCalculator", name := "upForm", desc := "(II)LGameCalculator$Form;" } : Jvm.MethodName) prog_1_method_12_code (9 : Nat) (Option.some (Jvm.ClassFile.FieldType.object "GameCalculator$Form"))) ∈ lw_all := lw_g (lw_at lw_m5 36 rfl) rfl
theorem q1128 : (Jvm.Cond.classLink "GameCalculator" (127 : Nat) "java/util/ArrayList") ∈ lw_all := lw_g (lw_at lw_m5 37 rfl) rfl
theorem q1129 : (Jvm.Cond.methodLink "GameCalculator" (129 : Nat) ({ cls := "java/util/ArrayList", name := "<init>", desc := "()V" } : Jvm.MethodName)) ∈ lw_all := lw_g (lw_at lw_m5 38 rfl) rfl
theorem q1130 : (Jvm.Cond.methodLink "GameCalculator" (130 : Nat) ({ cls := "GameCalculator", name := "made", desc := "(Ljava/util/List;Ljava/util/List;)LGameCalculator$Form;" } : Jvm.MethodName)) ∈ lw_all := lw_g (lw_at lw_m5 39 rfl) rfl
theorem q1131 : (Jvm.Cond.privateMethod ({ cls := "GameCalculator", name := "made", desc := "(Ljava/util/List;Ljava/util/List;)LGameCalculator$Form;" } : Jvm.MethodName)) ∈ lw_tbl := lw_at lw_m5 40 rfl
theorem q1132 : (Jvm.Cond.instanceMethod ({ cls := "GameCalculator", name := "made", desc := "(Ljava/util/List;Ljava/util/List;)LGameCalculator$Form;" } : Jvm.MethodName)) ∈ lw_all := lw_g (lw_at lw_m5 41 rfl) rfl
theorem q1133 : (Jvm.Cond.code ({ cls := "GameCalculator", name := "made", desc := "(Ljava/util/List;Ljava/util/List;)LGameCalculator$Form;" } : Jvm.MethodName) prog_1_method_9_code (4 : Nat) (Option.some (Jvm.ClassFile.FieldType.object "GameCalculator$Form"))) ∈ lw_all := lw_g (lw_at lw_m5 42 rfl) rfl
theorem q1134 : (Jvm.Cond.methodLink "GameCalculator" (105 : Nat) ({ cls := "GameCalculator", name := "games", desc := "(LGameCalculator$Arena;Ljava/util/List;)Ljava/util/List;" } : Jvm.MethodName)) ∈ lw_all := lw_g (lw_at lw_m5 43 rfl) rfl
theorem q1135 : (Jvm.Cond.static ({ cls := "GameCalculator", name := "games", desc := "(LGameCalculator$Arena;Ljava/util/List;)Ljava/util/List;" } : Jvm.MethodName)) ∈ lw_all := lw_g (lw_at lw_m5 44 rfl) rfl
theorem q1136 : (Jvm.Cond.code ({ cls := "GameCalculator", name := "games", desc := "(LGameCalculator$Arena;Ljava/util/List;)Ljava/util/List;" } : Jvm.MethodName) prog_1_method_10_code (4 : Nat) (Option.some (Jvm.ClassFile.FieldType.object "java/util/List"))) ∈ lw_all := lw_g (lw_at lw_m5 45 rfl) rfl
theorem q1137 : (Jvm.Cond.interfaceEntry "GameCalculator" (91 : Nat)) ∈ lw_tbl := lw_at lw_m5 46 rfl
theorem q1138 : (Jvm.Cond.methodLink "GameCalculator" (91 : Nat) ({ cls := "java/util/List", name := "size", desc := "()I" } : Jvm.MethodName)) ∈ lw_all := lw_g (lw_at lw_m5 47 rfl) rfl
theorem q1139 : (Jvm.Cond.interfaceEntry "GameCalculator" (97 : Nat)) ∈ lw_tbl := lw_at lw_m5 48 rfl
theorem q1140 : (Jvm.Cond.methodLink "GameCalculator" (97 : Nat) ({ cls := "java/util/List", name := "get", desc := "(I)Ljava/lang/Object;" } : Jvm.MethodName)) ∈ lw_all := lw_g (lw_at lw_m5 49 rfl) rfl
theorem q1141 : (Jvm.Cond.methodLink "GameCalculator" (64 : Nat) ({ cls := "GameCalculator$Arena", name := "game", desc := "(LGameCalculator$Form;)LGameCalculator$Game;" } : Jvm.MethodName)) ∈ lw_all := lw_g (lw_at lw_m5 50 rfl) rfl
theorem q1154 : (Jvm.Cond.methodLinkNest "GameCalculator" (60 : Nat) ({ cls := "GameCalculator$Arena", name := "add", desc := "(Ljava/util/List;LGameCalculator$Game;)V" } : Jvm.MethodName) "GameCalculator") ∈ lw_tbl := lw_at lw_m5 63 rfl
theorem q1155 : (Jvm.Cond.methodLink "GameCalculator" (38 : Nat) ({ cls := "GameCalculator$Arena", name := "makeOf", desc := "(Ljava/util/List;Ljava/util/List;)LGameCalculator$Game;" } : Jvm.MethodName)) ∈ lw_all := lw_g (lw_at lw_m5 64 rfl) rfl
theorem q1160 : (Jvm.Cond.methodLink "GameCalculator" (134 : Nat) ({ cls := "java/lang/Math", name := "abs", desc := "(I)I" } : Jvm.MethodName)) ∈ lw_all := lw_g (lw_at lw_m5 69 rfl) rfl
theorem q1163 : (Jvm.Cond.methodLink "GameCalculator" (139 : Nat) ({ cls := "GameCalculator", name := "sum", desc := "(LGameCalculator$Form;LGameCalculator$Form;)LGameCalculator$Form;" } : Jvm.MethodName)) ∈ lw_all := lw_g (lw_at lw_m5 72 rfl) rfl
theorem q1164 : (Jvm.Cond.privateMethod ({ cls := "GameCalculator", name := "sum", desc := "(LGameCalculator$Form;LGameCalculator$Form;)LGameCalculator$Form;" } : Jvm.MethodName)) ∈ lw_tbl := lw_at lw_m5 73 rfl
theorem q1165 : (Jvm.Cond.instanceMethod ({ cls := "GameCalculator", name := "sum", desc := "(LGameCalculator$Form;LGameCalculator$Form;)LGameCalculator$Form;" } : Jvm.MethodName)) ∈ lw_all := lw_g (lw_at lw_m5 74 rfl) rfl
theorem q1166 : (Jvm.Cond.code ({ cls := "GameCalculator", name := "sum", desc := "(LGameCalculator$Form;LGameCalculator$Form;)LGameCalculator$Form;" } : Jvm.MethodName) prog_1_method_3_code (6 : Nat) (Option.some (Jvm.ClassFile.FieldType.object "GameCalculator$Form"))) ∈ lw_all := lw_g (lw_at lw_m5 75 rfl) rfl
theorem q1167 : (Jvm.Cond.methodLink "GameCalculator" (34 : Nat) ({ cls := "GameCalculator", name := "sumOptions", desc := "(LGameCalculator$Form;LGameCalculator$Form;III[[LGameCalculator$Game;)Ljava/util/List;" } : Jvm.MethodName)) ∈ lw_all := lw_g (lw_at lw_m5 76 rfl) rfl
theorem q1168 : (Jvm.Cond.privateMethod ({ cls := "GameCalculator", name := "sumOptions", desc := "(LGameCalculator$Form;LGameCalculator$Form;III[[LGameCalculator$Game;)Ljava/util/List;" } : Jvm.MethodName)) ∈ lw_tbl := lw_at lw_m5 77 rfl
theorem q1169 : (Jvm.Cond.instanceMethod ({ cls := "GameCalculator", name := "sumOptions", desc := "(LGameCalculator$Form;LGameCalculator$Form;III[[LGameCalculator$Game;)Ljava/util/List;" } : Jvm.MethodName)) ∈ lw_all := lw_g (lw_at lw_m5 78 rfl) rfl
theorem q1170 : (Jvm.Cond.code ({ cls := "GameCalculator", name := "sumOptions", desc := "(LGameCalculator$Form;LGameCalculator$Form;III[[LGameCalculator$Game;)Ljava/util/List;" } : Jvm.MethodName) prog_1_method_4_code (9 : Nat) (Option.some (Jvm.ClassFile.FieldType.object "java/util/List"))) ∈ lw_all := lw_g (lw_at lw_m5 79 rfl) rfl
theorem q1171 : (Jvm.Cond.methodLink "GameCalculator" (50 : Nat) ({ cls := "GameCalculator$Form", name := "set", desc := "(II)I" } : Jvm.MethodName)) ∈ lw_all := lw_g (lw_at lw_m5 80 rfl) rfl
theorem q1175 : (Jvm.Cond.methodLink "GameCalculator" (54 : Nat) ({ cls := "java/lang/Integer", name := "numberOfTrailingZeros", desc := "(I)I" } : Jvm.MethodName)) ∈ lw_all := lw_g (lw_at lw_m5 84 rfl) rfl
theorem q1176 : (Jvm.Cond.methodLink "GameCalculator" (143 : Nat) ({ cls := "GameCalculator", name := "negative", desc := "(LGameCalculator$Form;)LGameCalculator$Form;" } : Jvm.MethodName)) ∈ lw_all := lw_g (lw_at lw_m5 85 rfl) rfl
theorem q1177 : (Jvm.Cond.privateMethod ({ cls := "GameCalculator", name := "negative", desc := "(LGameCalculator$Form;)LGameCalculator$Form;" } : Jvm.MethodName)) ∈ lw_tbl := lw_at lw_m5 86 rfl
theorem q1178 : (Jvm.Cond.instanceMethod ({ cls := "GameCalculator", name := "negative", desc := "(LGameCalculator$Form;)LGameCalculator$Form;" } : Jvm.MethodName)) ∈ lw_all := lw_g (lw_at lw_m5 87 rfl) rfl
theorem q1179 : (Jvm.Cond.code ({ cls := "GameCalculator", name := "negative", desc := "(LGameCalculator$Form;)LGameCalculator$Form;" } : Jvm.MethodName) prog_1_method_8_code (5 : Nat) (Option.some (Jvm.ClassFile.FieldType.object "GameCalculator$Form"))) ∈ lw_all := lw_g (lw_at lw_m5 88 rfl) rfl
theorem q1180 : (Jvm.Cond.classLink "GameCalculator" (68 : Nat) "GameCalculator$Game") ∈ lw_all := lw_g (lw_at lw_m5 89 rfl) rfl
theorem q1181 : (Jvm.Cond.methodLink "GameCalculator" (101 : Nat) ({ cls := "GameCalculator$Arena", name := "listOf", desc := "([LGameCalculator$Game;I)Ljava/util/List;" } : Jvm.MethodName)) ∈ lw_all := lw_g (lw_at lw_m5 90 rfl) rfl
theorem q1183 : (Jvm.Cond.instanceMethod ({ cls := "GameCalculator", name := "draft", desc := "(II)I" } : Jvm.MethodName)) ∈ lw_all := lw_g (lw_at lw_m5 92 rfl) rfl
theorem q1184 : (Jvm.Cond.selects "GameCalculator" ({ cls := "GameCalculator", name := "draft", desc := "(II)I" } : Jvm.MethodName) ({ cls := "GameCalculator", name := "draft", desc := "(II)I" } : Jvm.MethodName)) ∈ lw_all := lw_g (lw_at lw_m5 93 rfl) rfl
theorem q1185 : (Jvm.Cond.code ({ cls := "GameCalculator", name := "draft", desc := "(II)I" } : Jvm.MethodName) prog_1_method_30_code (5 : Nat) (Option.some Jvm.ClassFile.FieldType.int)) ∈ lw_all := lw_g (lw_at lw_m5 94 rfl) rfl
theorem q1186 : (Jvm.Cond.methodLink "GameCalculator" (291 : Nat) ({ cls := "GameCalculator", name := "isSide", desc := "(I)Z" } : Jvm.MethodName)) ∈ lw_all := lw_g (lw_at lw_m5 95 rfl) rfl
theorem q1187 : (Jvm.Cond.static ({ cls := "GameCalculator", name := "isSide", desc := "(I)Z" } : Jvm.MethodName)) ∈ lw_all := lw_g (lw_at lw_m5 96 rfl) rfl
theorem q1188 : (Jvm.Cond.code ({ cls := "GameCalculator", name := "isSide", desc := "(I)Z" } : Jvm.MethodName) prog_1_method_24_code (1 : Nat) (Option.some Jvm.ClassFile.FieldType.boolean)) ∈ lw_all := lw_g (lw_at lw_m5 97 rfl) rfl
theorem q1189 : (Jvm.Cond.methodLink "GameCalculator" (294 : Nat) ({ cls := "GameCalculator$Form", name := "isLike", desc := "(LGameCalculator$Form;)Z" } : Jvm.MethodName)) ∈ lw_all := lw_g (lw_at lw_m5 98 rfl) rfl
theorem q1193 : (Jvm.Cond.constant "GameCalculator" (298 : Nat) (-2000000003 : Int32)) ∈ lw_all := lw_g (lw_at lw_m5 102 rfl) rfl
theorem q1195 : (Jvm.Cond.instanceMethod ({ cls := "GameCalculator", name := "clearDraft", desc := "()I" } : Jvm.MethodName)) ∈ lw_all := lw_g (lw_at lw_m5 104 rfl) rfl
theorem q1196 : (Jvm.Cond.selects "GameCalculator" ({ cls := "GameCalculator", name := "clearDraft", desc := "()I" } : Jvm.MethodName) ({ cls := "GameCalculator", name := "clearDraft", desc := "()I" } : Jvm.MethodName)) ∈ lw_all := lw_g (lw_at lw_m5 105 rfl) rfl
theorem q1197 : (Jvm.Cond.code ({ cls := "GameCalculator", name := "clearDraft", desc := "()I" } : Jvm.MethodName) prog_1_method_32_code (1 : Nat) (Option.some Jvm.ClassFile.FieldType.int)) ∈ lw_all := lw_g (lw_at lw_m5 106 rfl) rfl
theorem q1198 : (Jvm.Cond.methodLink "GameCalculator" (315 : Nat) ({ cls := "GameCalculator", name := "emptied", desc := "(Ljava/util/List;)I" } : Jvm.MethodName)) ∈ lw_all := lw_g (lw_at lw_m5 107 rfl) rfl
theorem q1199 : (Jvm.Cond.static ({ cls := "GameCalculator", name := "emptied", desc := "(Ljava/util/List;)I" } : Jvm.MethodName)) ∈ lw_all := lw_g (lw_at lw_m5 108 rfl) rfl
theorem q1200 : (Jvm.Cond.code ({ cls := "GameCalculator", name := "emptied", desc := "(Ljava/util/List;)I" } : Jvm.MethodName) prog_1_method_31_code (3 : Nat) (Option.some Jvm.ClassFile.FieldType.int)) ∈ lw_all := lw_g (lw_at lw_m5 109 rfl) rfl
theorem q1201 : (Jvm.Cond.interfaceEntry "GameCalculator" (299 : Nat)) ∈ lw_tbl := lw_at lw_m5 110 rfl
theorem q1202 : (Jvm.Cond.methodLink "GameCalculator" (299 : Nat) ({ cls := "java/util/List", name := "iterator", desc := "()Ljava/util/Iterator;" } : Jvm.MethodName)) ∈ lw_all := lw_g (lw_at lw_m5 111 rfl) rfl
theorem q1316 : (Jvm.Cond.interfaceEntry "GameCalculator" (303 : Nat)) ∈ lw_tbl := lw_at lw_m5 225 rfl
theorem q1317 : (Jvm.Cond.methodLink "GameCalculator" (303 : Nat) ({ cls := "java/util/Iterator", name := "hasNext", desc := "()Z" } : Jvm.MethodName)) ∈ lw_all := lw_g (lw_at lw_m5 226 rfl) rfl
theorem q1351 : (Jvm.Cond.interfaceEntry "GameCalculator" (309 : Nat)) ∈ lw_tbl := lw_at lw_m6 20 rfl
theorem q1352 : (Jvm.Cond.methodLink "GameCalculator" (309 : Nat) ({ cls := "java/util/Iterator", name := "next", desc := "()Ljava/lang/Object;" } : Jvm.MethodName)) ∈ lw_all := lw_g (lw_at lw_m6 21 rfl) rfl
theorem q1630 : (Jvm.Cond.interfaceEntry "GameCalculator" (312 : Nat)) ∈ lw_tbl := lw_at lw_m7 59 rfl
theorem q1631 : (Jvm.Cond.methodLink "GameCalculator" (312 : Nat) ({ cls := "java/util/Iterator", name := "remove", desc := "()V" } : Jvm.MethodName)) ∈ lw_all := lw_g (lw_at lw_m7 60 rfl) rfl
theorem q1697 : (Jvm.Cond.instanceMethod ({ cls := "GameCalculator", name := "examineDraft", desc := "(I)I" } : Jvm.MethodName)) ∈ lw_all := lw_g (lw_at lw_m7 126 rfl) rfl
theorem q1698 : (Jvm.Cond.selects "GameCalculator" ({ cls := "GameCalculator", name := "examineDraft", desc := "(I)I" } : Jvm.MethodName) ({ cls := "GameCalculator", name := "examineDraft", desc := "(I)I" } : Jvm.MethodName)) ∈ lw_all := lw_g (lw_at lw_m7 127 rfl) rfl
theorem q1699 : (Jvm.Cond.code ({ cls := "GameCalculator", name := "examineDraft", desc := "(I)I" } : Jvm.MethodName) prog_1_method_33_code (11 : Nat) (Option.some Jvm.ClassFile.FieldType.int)) ∈ lw_all := lw_g (lw_at lw_m7 128 rfl) rfl
theorem q1700 : (Jvm.Cond.methodLink "GameCalculator" (319 : Nat) ({ cls := "GameCalculator$Arena", name := "candidate", desc := "(Ljava/util/List;Ljava/util/List;)LGameCalculator$Game;" } : Jvm.MethodName)) ∈ lw_all := lw_g (lw_at lw_m7 129 rfl) rfl
theorem q1701 : (Jvm.Cond.methodLink "GameCalculator" (322 : Nat) ({ cls := "GameCalculator$Game", name := "options", desc := "(I)Ljava/util/List;" } : Jvm.MethodName)) ∈ lw_all := lw_g (lw_at lw_m7 130 rfl) rfl
theorem q1702 : (Jvm.Cond.methodLink "GameCalculator" (326 : Nat) ({ cls := "GameCalculator$Arena", name := "isDominated", desc := "(ILGameCalculator$Game;Ljava/util/List;)Z" } : Jvm.MethodName)) ∈ lw_all := lw_g (lw_at lw_m7 131 rfl) rfl
theorem q1703 : (Jvm.Cond.methodLink "GameCalculator" (330 : Nat) ({ cls := "GameCalculator$Arena", name := "reversal", desc := "(ILGameCalculator$Game;LGameCalculator$Game;)LGameCalculator$Game;" } : Jvm.MethodName)) ∈ lw_all := lw_g (lw_at lw_m7 132 rfl) rfl
theorem q1705 : (Jvm.Cond.instanceMethod ({ cls := "GameCalculator", name := "makeGame", desc := "(I)I" } : Jvm.MethodName)) ∈ lw_all := lw_g (lw_at lw_m7 134 rfl) rfl
theorem q1706 : (Jvm.Cond.selects "GameCalculator" ({ cls := "GameCalculator", name := "makeGame", desc := "(I)I" } : Jvm.MethodName) ({ cls := "GameCalculator", name := "makeGame", desc := "(I)I" } : Jvm.MethodName)) ∈ lw_all := lw_g (lw_at lw_m7 135 rfl) rfl
theorem q1707 : (Jvm.Cond.code ({ cls := "GameCalculator", name := "makeGame", desc := "(I)I" } : Jvm.MethodName) prog_1_method_34_code (3 : Nat) (Option.some Jvm.ClassFile.FieldType.int)) ∈ lw_all := lw_g (lw_at lw_m7 136 rfl) rfl
theorem q1708 : (Jvm.Cond.privateMethod ({ cls := "GameCalculator", name := "lambda$makeGame$3", desc := "()LGameCalculator$Form;" } : Jvm.MethodName)) ∈ lw_tbl := lw_at lw_m7 137 rfl
theorem q1709 : (Jvm.Cond.instanceMethod ({ cls := "GameCalculator", name := "lambda$makeGame$3", desc := "()LGameCalculator$Form;" } : Jvm.MethodName)) ∈ lw_all := lw_g (lw_at lw_m7 138 rfl) rfl
theorem q1710 : (Jvm.Cond.code ({ cls := "GameCalculator", name := "lambda$makeGame$3", desc := "()LGameCalculator$Form;" } : Jvm.MethodName) prog_1_method_82_code (1 : Nat) (Option.some (Jvm.ClassFile.FieldType.object "GameCalculator$Form"))) ∈ lw_all := lw_g (lw_at lw_m7 139 rfl) rfl
theorem q1712 : (Jvm.Cond.instanceMethod ({ cls := "GameCalculator", name := "takeOption", desc := "(IIII)I" } : Jvm.MethodName)) ∈ lw_all := lw_g (lw_at lw_m7 141 rfl) rfl
theorem q1713 : (Jvm.Cond.selects "GameCalculator" ({ cls := "GameCalculator", name := "takeOption", desc := "(IIII)I" } : Jvm.MethodName) ({ cls := "GameCalculator", name := "takeOption", desc := "(IIII)I" } : Jvm.MethodName)) ∈ lw_all := lw_g (lw_at lw_m7 142 rfl) rfl
theorem q1714 : (Jvm.Cond.code ({ cls := "GameCalculator", name := "takeOption", desc := "(IIII)I" } : Jvm.MethodName) prog_1_method_36_code (7 : Nat) (Option.some Jvm.ClassFile.FieldType.int)) ∈ lw_all := lw_g (lw_at lw_m7 143 rfl) rfl
theorem q1715 : (Jvm.Cond.methodLink "GameCalculator" (341 : Nat) ({ cls := "GameCalculator$Form", name := "option", desc := "(II)I" } : Jvm.MethodName)) ∈ lw_all := lw_g (lw_at lw_m7 144 rfl) rfl
theorem q1721 : (Jvm.Cond.constant "GameCalculator" (344 : Nat) (-2000000009 : Int32)) ∈ lw_all := lw_g (lw_at lw_m7 150 rfl) rfl
theorem q1722 : (Jvm.Cond.privateMethod ({ cls := "GameCalculator", name := "lambda$takeOption$4", desc := "(LGameCalculator$Form;I)LGameCalculator$Form;" } : Jvm.MethodName)) ∈ lw_tbl := lw_at lw_m7 151 rfl
theorem q1723 : (Jvm.Cond.instanceMethod ({ cls := "GameCalculator", name := "lambda$takeOption$4", desc := "(LGameCalculator$Form;I)LGameCalculator$Form;" } : Jvm.MethodName)) ∈ lw_all := lw_g (lw_at lw_m7 152 rfl) rfl
theorem q1724 : (Jvm.Cond.code ({ cls := "GameCalculator", name := "lambda$takeOption$4", desc := "(LGameCalculator$Form;I)LGameCalculator$Form;" } : Jvm.MethodName) prog_1_method_81_code (3 : Nat) (Option.some (Jvm.ClassFile.FieldType.object "GameCalculator$Form"))) ∈ lw_all := lw_g (lw_at lw_m7 153 rfl) rfl
theorem q1725 : (Jvm.Cond.methodLink "GameCalculator" (477 : Nat) ({ cls := "GameCalculator", name := "option", desc := "(LGameCalculator$Form;I)LGameCalculator$Form;" } : Jvm.MethodName)) ∈ lw_all := lw_g (lw_at lw_m7 154 rfl) rfl
theorem q1726 : (Jvm.Cond.privateMethod ({ cls := "GameCalculator", name := "option", desc := "(LGameCalculator$Form;I)LGameCalculator$Form;" } : Jvm.MethodName)) ∈ lw_tbl := lw_at lw_m7 155 rfl
theorem q1727 : (Jvm.Cond.instanceMethod ({ cls := "GameCalculator", name := "option", desc := "(LGameCalculator$Form;I)LGameCalculator$Form;" } : Jvm.MethodName)) ∈ lw_all := lw_g (lw_at lw_m7 156 rfl) rfl
theorem q1728 : (Jvm.Cond.code ({ cls := "GameCalculator", name := "option", desc := "(LGameCalculator$Form;I)LGameCalculator$Form;" } : Jvm.MethodName) prog_1_method_35_code (4 : Nat) (Option.some (Jvm.ClassFile.FieldType.object "GameCalculator$Form"))) ∈ lw_all := lw_g (lw_at lw_m7 157 rfl) rfl
theorem q1729 : (Jvm.Cond.methodLink "GameCalculator" (337 : Nat) ({ cls := "GameCalculator$Arena", name := "take", desc := "(LGameCalculator$Form;)[LGameCalculator$Game;" } : Jvm.MethodName)) ∈ lw_all := lw_g (lw_at lw_m7 158 rfl) rfl
theorem q1731 : (Jvm.Cond.instanceMethod ({ cls := "GameCalculator", name := "dominoes", desc := "(II)I" } : Jvm.MethodName)) ∈ lw_all := lw_g (lw_at lw_m7 160 rfl) rfl
theorem q1732 : (Jvm.Cond.selects "GameCalculator" ({ cls := "GameCalculator", name := "dominoes", desc := "(II)I" } : Jvm.MethodName) ({ cls := "GameCalculator", name := "dominoes", desc := "(II)I" } : Jvm.MethodName)) ∈ lw_all := lw_g (lw_at lw_m7 161 rfl) rfl
theorem q1733 : (Jvm.Cond.code ({ cls := "GameCalculator", name := "dominoes", desc := "(II)I" } : Jvm.MethodName) prog_1_method_39_code (3 : Nat) (Option.some Jvm.ClassFile.FieldType.int)) ∈ lw_all := lw_g (lw_at lw_m7 162 rfl) rfl
theorem q1734 : (Jvm.Cond.privateMethod ({ cls := "GameCalculator", name := "lambda$dominoes$5", desc := "(I)LGameCalculator$Form;" } : Jvm.MethodName)) ∈ lw_tbl := lw_at lw_m7 163 rfl
theorem q1735 : (Jvm.Cond.instanceMethod ({ cls := "GameCalculator", name := "lambda$dominoes$5", desc := "(I)LGameCalculator$Form;" } : Jvm.MethodName)) ∈ lw_all := lw_g (lw_at lw_m7 164 rfl) rfl
theorem q1736 : (Jvm.Cond.code ({ cls := "GameCalculator", name := "lambda$dominoes$5", desc := "(I)LGameCalculator$Form;" } : Jvm.MethodName) prog_1_method_80_code (2 : Nat) (Option.some (Jvm.ClassFile.FieldType.object "GameCalculator$Form"))) ∈ lw_all := lw_g (lw_at lw_m7 165 rfl) rfl
theorem q1737 : (Jvm.Cond.methodLink "GameCalculator" (474 : Nat) ({ cls := "GameCalculator", name := "dominoForm", desc := "(I)LGameCalculator$Form;" } : Jvm.MethodName)) ∈ lw_all := lw_g (lw_at lw_m7 166 rfl) rfl
theorem q1738 : (Jvm.Cond.privateMethod ({ cls := "GameCalculator", name := "dominoForm", desc := "(I)LGameCalculator$Form;" } : Jvm.MethodName)) ∈ lw_tbl := lw_at lw_m7 167 rfl
theorem q1739 : (Jvm.Cond.instanceMethod ({ cls := "GameCalculator", name := "dominoForm", desc := "(I)LGameCalculator$Form;" } : Jvm.MethodName)) ∈ lw_all := lw_g (lw_at lw_m7 168 rfl) rfl
theorem q1740 : (Jvm.Cond.code ({ cls := "GameCalculator", name := "dominoForm", desc := "(I)LGameCalculator$Form;" } : Jvm.MethodName) prog_1_method_38_code (3 : Nat) (Option.some (Jvm.ClassFile.FieldType.object "GameCalculator$Form"))) ∈ lw_all := lw_g (lw_at lw_m7 169 rfl) rfl
theorem q1741 : (Jvm.Cond.methodLink "GameCalculator" (348 : Nat) ({ cls := "GameCalculator", name := "domino", desc := "(ILGameCalculator$Arena;[LGameCalculator$Game;)LGameCalculator$Game;" } : Jvm.MethodName)) ∈ lw_all := lw_g (lw_at lw_m7 170 rfl) rfl
theorem q1742 : (Jvm.Cond.privateMethod ({ cls := "GameCalculator", name := "domino", desc := "(ILGameCalculator$Arena;[LGameCalculator$Game;)LGameCalculator$Game;" } : Jvm.MethodName)) ∈ lw_tbl := lw_at lw_m7 171 rfl
theorem q1743 : (Jvm.Cond.instanceMethod ({ cls := "GameCalculator", name := "domino", desc := "(ILGameCalculator$Arena;[LGameCalculator$Game;)LGameCalculator$Game;" } : Jvm.MethodName)) ∈ lw_all := lw_g (lw_at lw_m7 172 rfl) rfl
theorem q1744 : (Jvm.Cond.code ({ cls := "GameCalculator", name := "domino", desc := "(ILGameCalculator$Arena;[LGameCalculator$Game;)LGameCalculator$Game;" } : Jvm.MethodName) prog_1_method_37_code (9 : Nat) (Option.some (Jvm.ClassFile.FieldType.object "GameCalculator$Game"))) ∈ lw_all := lw_g (lw_at lw_m7 173 rfl) rfl
theorem q1746 : (Jvm.Cond.instanceMethod ({ cls := "GameCalculator", name := "negate", desc := "(II)I" } : Jvm.MethodName)) ∈ lw_all := lw_g (lw_at lw_m7 175 rfl) rfl
theorem q1747 : (Jvm.Cond.selects "GameCalculator" ({ cls := "GameCalculator", name := "negate", desc := "(II)I" } : Jvm.MethodName) ({ cls := "GameCalculator", name := "negate", desc := "(II)I" } : Jvm.MethodName)) ∈ lw_all := lw_g (lw_at lw_m7 176 rfl) rfl
theorem q1748 : (Jvm.Cond.code ({ cls := "GameCalculator", name := "negate", desc := "(II)I" } : Jvm.MethodName) prog_1_method_40_code (3 : Nat) (Option.some Jvm.ClassFile.FieldType.int)) ∈ lw_all := lw_g (lw_at lw_m7 177 rfl) rfl
theorem q1749 : (Jvm.Cond.privateMethod ({ cls := "GameCalculator", name := "lambda$negate$6", desc := "(I)LGameCalculator$Form;" } : Jvm.MethodName)) ∈ lw_tbl := lw_at lw_m7 178 rfl
theorem q1750 : (Jvm.Cond.instanceMethod ({ cls := "GameCalculator", name := "lambda$negate$6", desc := "(I)LGameCalculator$Form;" } : Jvm.MethodName)) ∈ lw_all := lw_g (lw_at lw_m7 179 rfl) rfl
theorem q1751 : (Jvm.Cond.code ({ cls := "GameCalculator", name := "lambda$negate$6", desc := "(I)LGameCalculator$Form;" } : Jvm.MethodName) prog_1_method_79_code (2 : Nat) (Option.some (Jvm.ClassFile.FieldType.object "GameCalculator$Form"))) ∈ lw_all := lw_g (lw_at lw_m7 180 rfl) rfl
theorem q1753 : (Jvm.Cond.instanceMethod ({ cls := "GameCalculator", name := "add", desc := "(III)I" } : Jvm.MethodName)) ∈ lw_all := lw_g (lw_at lw_m7 182 rfl) rfl
theorem q1754 : (Jvm.Cond.selects "GameCalculator" ({ cls := "GameCalculator", name := "add", desc := "(III)I" } : Jvm.MethodName) ({ cls := "GameCalculator", name := "add", desc := "(III)I" } : Jvm.MethodName)) ∈ lw_all := lw_g (lw_at lw_m7 183 rfl) rfl
theorem q1755 : (Jvm.Cond.code ({ cls := "GameCalculator", name := "add", desc := "(III)I" } : Jvm.MethodName) prog_1_method_42_code (4 : Nat) (Option.some Jvm.ClassFile.FieldType.int)) ∈ lw_all := lw_g (lw_at lw_m7 184 rfl) rfl
theorem q1756 : (Jvm.Cond.methodLink "GameCalculator" (354 : Nat) ({ cls := "GameCalculator", name := "areSlots", desc := "(II)Z" } : Jvm.MethodName)) ∈ lw_all := lw_g (lw_at lw_m7 185 rfl) rfl
theorem q1757 : (Jvm.Cond.static ({ cls := "GameCalculator", name := "areSlots", desc := "(II)Z" } : Jvm.MethodName)) ∈ lw_all := lw_g (lw_at lw_m7 186 rfl) rfl
theorem q1758 : (Jvm.Cond.code ({ cls := "GameCalculator", name := "areSlots", desc := "(II)Z" } : Jvm.MethodName) prog_1_method_41_code (2 : Nat) (Option.some Jvm.ClassFile.FieldType.boolean)) ∈ lw_all := lw_g (lw_at lw_m7 187 rfl) rfl
theorem q1759 : (Jvm.Cond.privateMethod ({ cls := "GameCalculator", name := "lambda$add$7", desc := "(II)LGameCalculator$Form;" } : Jvm.MethodName)) ∈ lw_tbl := lw_at lw_m7 188 rfl
theorem q1760 : (Jvm.Cond.instanceMethod ({ cls := "GameCalculator", name := "lambda$add$7", desc := "(II)LGameCalculator$Form;" } : Jvm.MethodName)) ∈ lw_all := lw_g (lw_at lw_m7 189 rfl) rfl
theorem q1761 : (Jvm.Cond.code ({ cls := "GameCalculator", name := "lambda$add$7", desc := "(II)LGameCalculator$Form;" } : Jvm.MethodName) prog_1_method_78_code (3 : Nat) (Option.some (Jvm.ClassFile.FieldType.object "GameCalculator$Form"))) ∈ lw_all := lw_g (lw_at lw_m7 190 rfl) rfl
theorem q1763 : (Jvm.Cond.instanceMethod ({ cls := "GameCalculator", name := "subtract", desc := "(III)I" } : Jvm.MethodName)) ∈ lw_all := lw_g (lw_at lw_m7 192 rfl) rfl
theorem q1764 : (Jvm.Cond.selects "GameCalculator" ({ cls := "GameCalculator", name := "subtract", desc := "(III)I" } : Jvm.MethodName) ({ cls := "GameCalculator", name := "subtract", desc := "(III)I" } : Jvm.MethodName)) ∈ lw_all := lw_g (lw_at lw_m7 193 rfl) rfl
theorem q1765 : (Jvm.Cond.code ({ cls := "GameCalculator", name := "subtract", desc := "(III)I" } : Jvm.MethodName) prog_1_method_43_code (4 : Nat) (Option.some Jvm.ClassFile.FieldType.int)) ∈ lw_all := lw_g (lw_at lw_m7 194 rfl) rfl
theorem q1766 : (Jvm.Cond.privateMethod ({ cls := "GameCalculator", name := "lambda$subtract$8", desc := "(II)LGameCalculator$Form;" } : Jvm.MethodName)) ∈ lw_tbl := lw_at lw_m7 195 rfl
theorem q1767 : (Jvm.Cond.instanceMethod ({ cls := "GameCalculator", name := "lambda$subtract$8", desc := "(II)LGameCalculator$Form;" } : Jvm.MethodName)) ∈ lw_all := lw_g (lw_at lw_m7 196 rfl) rfl
theorem q1768 : (Jvm.Cond.code ({ cls := "GameCalculator", name := "lambda$subtract$8", desc := "(II)LGameCalculator$Form;" } : Jvm.MethodName) prog_1_method_77_code (3 : Nat) (Option.some (Jvm.ClassFile.FieldType.object "GameCalculator$Form"))) ∈ lw_all := lw_g (lw_at lw_m7 197 rfl) rfl
theorem q1770 : (Jvm.Cond.instanceMethod ({ cls := "GameCalculator", name := "ordinalSum", desc := "(III)I" } : Jvm.MethodName)) ∈ lw_all := lw_g (lw_at lw_m7 199 rfl) rfl
theorem q1771 : (Jvm.Cond.selects "GameCalculator" ({ cls := "GameCalculator", name := "ordinalSum", desc := "(III)I" } : Jvm.MethodName) ({ cls := "GameCalculator", name := "ordinalSum", desc := "(III)I" } : Jvm.MethodName)) ∈ lw_all := lw_g (lw_at lw_m7 200 rfl) rfl
theorem q1772 : (Jvm.Cond.code ({ cls := "GameCalculator", name := "ordinalSum", desc := "(III)I" } : Jvm.MethodName) prog_1_method_44_code (4 : Nat) (Option.some Jvm.ClassFile.FieldType.int)) ∈ lw_all := lw_g (lw_at lw_m7 201 rfl) rfl
theorem q1773 : (Jvm.Cond.privateMethod ({ cls := "GameCalculator", name := "lambda$ordinalSum$9", desc := "(II)LGameCalculator$Form;" } : Jvm.MethodName)) ∈ lw_tbl := lw_at lw_m7 202 rfl
theorem q1774 : (Jvm.Cond.instanceMethod ({ cls := "GameCalculator", name := "lambda$ordinalSum$9", desc := "(II)LGameCalculator$Form;" } : Jvm.MethodName)) ∈ lw_all := lw_g (lw_at lw_m7 203 rfl) rfl
theorem q1775 : (Jvm.Cond.code ({ cls := "GameCalculator", name := "lambda$ordinalSum$9", desc := "(II)LGameCalculator$Form;" } : Jvm.MethodName) prog_1_method_76_code (3 : Nat) (Option.some (Jvm.ClassFile.FieldType.object "GameCalculator$Form"))) ∈ lw_all := lw_g (lw_at lw_m7 204 rfl) rfl
theorem q1776 : (Jvm.Cond.methodLink "GameCalculator" (471 : Nat) ({ cls := "GameCalculator", name := "ordinalSum", desc := "(LGameCalculator$Form;LGameCalculator$Form;)LGameCalculator$Form;" } : Jvm.MethodName)) ∈ lw_all := lw_g (lw_at lw_m7 205 rfl) rfl
theorem q1777 : (Jvm.Cond.privateMethod ({ cls := "GameCalculator", name := "ordinalSum", desc := "(LGameCalculator$Form;LGameCalculator$Form;)LGameCalculator$Form;" } : Jvm.MethodName)) ∈ lw_tbl := lw_at lw_m7 206 rfl
theorem q1778 : (Jvm.Cond.instanceMethod ({ cls := "GameCalculator", name := "ordinalSum", desc := "(LGameCalculator$Form;LGameCalculator$Form;)LGameCalculator$Form;" } : Jvm.MethodName)) ∈ lw_all := lw_g (lw_at lw_m7 207 rfl) rfl
theorem q1779 : (Jvm.Cond.code ({ cls := "GameCalculator", name := "ordinalSum", desc := "(LGameCalculator$Form;LGameCalculator$Form;)LGameCalculator$Form;" } : Jvm.MethodName) prog_1_method_5_code (9 : Nat) (Option.some (Jvm.ClassFile.FieldType.object "GameCalculator$Form"))) ∈ lw_all := lw_g (lw_at lw_m7 208 rfl) rfl
theorem q1780 : (Jvm.Cond.methodLink "GameCalculator" (74 : Nat) ({ cls := "GameCalculator", name := "addAll", desc := "(Ljava/util/List;Ljava/util/List;)V" } : Jvm.MethodName)) ∈ lw_all := lw_g (lw_at lw_m7 209 rfl) rfl
theorem q1781 : (Jvm.Cond.static ({ cls := "GameCalculator", name := "addAll", desc := "(Ljava/util/List;Ljava/util/List;)V" } : Jvm.MethodName)) ∈ lw_all := lw_g (lw_at lw_m7 210 rfl) rfl
theorem q1782 : (Jvm.Cond.code ({ cls := "GameCalculator", name := "addAll", desc := "(Ljava/util/List;Ljava/util/List;)V" } : Jvm.MethodName) prog_1_method_6_code (3 : Nat) (Option.none : Option Jvm.ClassFile.FieldType)) ∈ lw_all := lw_g (lw_at lw_m7 211 rfl) rfl
theorem q1783 : (Jvm.Cond.methodLink "GameCalculator" (85 : Nat) ({ cls := "GameCalculator", name := "addAll", desc := "(Ljava/util/List;[LGameCalculator$Game;I)V" } : Jvm.MethodName)) ∈ lw_all := lw_g (lw_at lw_m7 212 rfl) rfl
theorem q1784 : (Jvm.Cond.static ({ cls := "GameCalculator", name := "addAll", desc := "(Ljava/util/List;[LGameCalculator$Game;I)V" } : Jvm.MethodName)) ∈ lw_all := lw_g (lw_at lw_m7 213 rfl) rfl
theorem q1785 : (Jvm.Cond.code ({ cls := "GameCalculator", name := "addAll", desc := "(Ljava/util/List;[LGameCalculator$Game;I)V" } : Jvm.MethodName) prog_1_method_7_code (4 : Nat) (Option.none : Option Jvm.ClassFile.FieldType)) ∈ lw_all := lw_g (lw_at lw_m7 214 rfl) rfl
theorem q1787 : (Jvm.Cond.instanceMethod ({ cls := "GameCalculator", name := "multiply", desc := "(III)I" } : Jvm.MethodName)) ∈ lw_all := lw_g (lw_at lw_m7 216 rfl) rfl
theorem q1788 : (Jvm.Cond.selects "GameCalculator" ({ cls := "GameCalculator", name := "multiply", desc := "(III)I" } : Jvm.MethodName) ({ cls := "GameCalculator", name := "multiply", desc := "(III)I" } : Jvm.MethodName)) ∈ lw_all := lw_g (lw_at lw_m7 217 rfl) rfl
theorem q1789 : (Jvm.Cond.code ({ cls := "GameCalculator", name := "multiply", desc := "(III)I" } : Jvm.MethodName) prog_1_method_46_code (8 : Nat) (Option.some Jvm.ClassFile.FieldType.int)) ∈ lw_all := lw_g (lw_at lw_m7 218 rfl) rfl
theorem q1790 : (Jvm.Cond.methodLink "GameCalculator" (200 : Nat) ({ cls := "GameCalculator", name := "valueOf", desc := "(LGameCalculator$Form;)J" } : Jvm.MethodName)) ∈ lw_all := lw_g (lw_at lw_m7 219 rfl) rfl
theorem q1791 : (Jvm.Cond.static ({ cls := "GameCalculator", name := "valueOf", desc := "(LGameCalculator$Form;)J" } : Jvm.MethodName)) ∈ lw_all := lw_g (lw_at lw_m7 220 rfl) rfl
theorem q1792 : (Jvm.Cond.code ({ cls := "GameCalculator", name := "valueOf", desc := "(LGameCalculator$Form;)J" } : Jvm.MethodName) prog_1_method_18_code (1 : Nat) (Option.some Jvm.ClassFile.FieldType.long)) ∈ lw_all := lw_g (lw_at lw_m7 221 rfl) rfl
theorem q1793 : (Jvm.Cond.methodLink "GameCalculator" (196 : Nat) ({ cls := "GameCalculator", name := "values", desc := "(LGameCalculator$Form;)[J" } : Jvm.MethodName)) ∈ lw_all := lw_g (lw_at lw_m7 222 rfl) rfl
theorem q1794 : (Jvm.Cond.static ({ cls := "GameCalculator", name := "values", desc := "(LGameCalculator$Form;)[J" } : Jvm.MethodName)) ∈ lw_all := lw_g (lw_at lw_m7 223 rfl) rfl
theorem q1795 : (Jvm.Cond.code ({ cls := "GameCalculator", name := "values", desc := "(LGameCalculator$Form;)[J" } : Jvm.MethodName) prog_1_method_17_code (12 : Nat) (Option.some (Jvm.ClassFile.FieldType.array Jvm.ClassFile.FieldType.long))) ∈ lw_all := lw_g (lw_at lw_m7 224 rfl) rfl
theorem q1796 : (Jvm.Cond.constantLong "GameCalculator" (187 : Nat) (-9223372036854775808 : Int64)) ∈ lw_all := lw_g (lw_at lw_m7 225 rfl) rfl
theorem q1797 : (Jvm.Cond.methodLink "GameCalculator" (189 : Nat) ({ cls := "java/lang/Math", name := "max", desc := "(JJ)J" } : Jvm.MethodName)) ∈ lw_all := lw_g (lw_at lw_m7 226 rfl) rfl
theorem q1800 : (Jvm.Cond.methodLink "GameCalculator" (193 : Nat) ({ cls := "java/lang/Math", name := "min", desc := "(JJ)J" } : Jvm.MethodName)) ∈ lw_all := lw_g (lw_at lw_m7 229 rfl) rfl
theorem q1803 : (Jvm.Cond.constant "GameCalculator" (366 : Nat) (-2000000002 : Int32)) ∈ lw_all := lw_g (lw_at lw_m7 232 rfl) rfl
theorem q1804 : (Jvm.Cond.privateMethod ({ cls := "GameCalculator", name := "lambda$multiply$10", desc := "(JJ)LGameCalculator$Form;" } : Jvm.MethodName)) ∈ lw_tbl := lw_at lw_m7 233 rfl
theorem q1805 : (Jvm.Cond.instanceMethod ({ cls := "GameCalculator", name := "lambda$multiply$10", desc := "(JJ)LGameCalculator$Form;" } : Jvm.MethodName)) ∈ lw_all := lw_g (lw_at lw_m7 234 rfl) rfl
theorem q1806 : (Jvm.Cond.code ({ cls := "GameCalculator", name := "lambda$multiply$10", desc := "(JJ)LGameCalculator$Form;" } : Jvm.MethodName) prog_1_method_75_code (5 : Nat) (Option.some (Jvm.ClassFile.FieldType.object "GameCalculator$Form"))) ∈ lw_all := lw_g (lw_at lw_m7 235 rfl) rfl
theorem q1807 : (Jvm.Cond.methodLink "GameCalculator" (468 : Nat) ({ cls := "GameCalculator", name := "product", desc := "(JJ)LGameCalculator$Form;" } : Jvm.MethodName)) ∈ lw_all := lw_g (lw_at lw_m7 236 rfl) rfl
theorem q1808 : (Jvm.Cond.privateMethod ({ cls := "GameCalculator", name := "product", desc := "(JJ)LGameCalculator$Form;" } : Jvm.MethodName)) ∈ lw_tbl := lw_at lw_m7 237 rfl
theorem q1809 : (Jvm.Cond.instanceMethod ({ cls := "GameCalculator", name := "product", desc := "(JJ)LGameCalculator$Form;" } : Jvm.MethodName)) ∈ lw_all := lw_g (lw_at lw_m7 238 rfl) rfl
theorem q1810 : (Jvm.Cond.code ({ cls := "GameCalculator", name := "product", desc := "(JJ)LGameCalculator$Form;" } : Jvm.MethodName) prog_1_method_45_code (8 : Nat) (Option.some (Jvm.ClassFile.FieldType.object "GameCalculator$Form"))) ∈ lw_all := lw_g (lw_at lw_m7 239 rfl) rfl
theorem q1811 : (Jvm.Cond.methodLink "GameCalculator" (209 : Nat) ({ cls := "GameCalculator", name := "exponent", desc := "(J)I" } : Jvm.MethodName)) ∈ lw_all := lw_g (lw_at lw_m8 0 rfl) rfl
theorem q1812 : (Jvm.Cond.static ({ cls := "GameCalculator", name := "exponent", desc := "(J)I" } : Jvm.MethodName)) ∈ lw_all := lw_g (lw_at lw_m8 1 rfl) rfl
theorem q1813 : (Jvm.Cond.code ({ cls := "GameCalculator", name := "exponent", desc := "(J)I" } : Jvm.MethodName) prog_1_method_20_code (2 : Nat) (Option.some Jvm.ClassFile.FieldType.int)) ∈ lw_all := lw_g (lw_at lw_m8 2 rfl) rfl
theorem q1814 : (Jvm.Cond.methodLink "GameCalculator" (204 : Nat) ({ cls := "java/lang/Long", name := "numberOfTrailingZeros", desc := "(J)I" } : Jvm.MethodName)) ∈ lw_all := lw_g (lw_at lw_m8 3 rfl) rfl
theorem q1815 : (Jvm.Cond.methodLink "GameCalculator" (207 : Nat) ({ cls := "java/lang/Math", name := "max", desc := "(II)I" } : Jvm.MethodName)) ∈ lw_all := lw_g (lw_at lw_m8 4 rfl) rfl
theorem q1816 : (Jvm.Cond.constantLong "GameCalculator" (361 : Nat) (2 : Int64)) ∈ lw_all := lw_g (lw_at lw_m8 5 rfl) rfl
theorem q1818 : (Jvm.Cond.instanceMethod ({ cls := "GameCalculator", name := "reciprocal", desc := "(II)I" } : Jvm.MethodName)) ∈ lw_all := lw_g (lw_at lw_m8 7 rfl) rfl
theorem q1819 : (Jvm.Cond.selects "GameCalculator" ({ cls := "GameCalculator", name := "reciprocal", desc := "(II)I" } : Jvm.MethodName) ({ cls := "GameCalculator", name := "reciprocal", desc := "(II)I" } : Jvm.MethodName)) ∈ lw_all := lw_g (lw_at lw_m8 8 rfl) rfl
theorem q1820 : (Jvm.Cond.code ({ cls := "GameCalculator", name := "reciprocal", desc := "(II)I" } : Jvm.MethodName) prog_1_method_47_code (10 : Nat) (Option.some Jvm.ClassFile.FieldType.int)) ∈ lw_all := lw_g (lw_at lw_m8 9 rfl) rfl
theorem q1821 : (Jvm.Cond.methodLink "GameCalculator" (370 : Nat) ({ cls := "java/lang/Math", name := "abs", desc := "(J)J" } : Jvm.MethodName)) ∈ lw_all := lw_g (lw_at lw_m8 10 rfl) rfl
theorem q1824 : (Jvm.Cond.methodLink "GameCalculator" (373 : Nat) ({ cls := "java/lang/Long", name := "bitCount", desc := "(J)I" } : Jvm.MethodName)) ∈ lw_all := lw_g (lw_at lw_m8 13 rfl) rfl
theorem q1825 : (Jvm.Cond.constantLong "GameCalculator" (376 : Nat) (4294967296 : Int64)) ∈ lw_all := lw_g (lw_at lw_m8 14 rfl) rfl
theorem q1826 : (Jvm.Cond.methodLink "GameCalculator" (378 : Nat) ({ cls := "java/lang/Math", name := "min", desc := "(II)I" } : Jvm.MethodName)) ∈ lw_all := lw_g (lw_at lw_m8 15 rfl) rfl
theorem q1827 : (Jvm.Cond.privateMethod ({ cls := "GameCalculator", name := "lambda$reciprocal$11", desc := "(JJ)LGameCalculator$Form;" } : Jvm.MethodName)) ∈ lw_tbl := lw_at lw_m8 16 rfl
theorem q1828 : (Jvm.Cond.instanceMethod ({ cls := "GameCalculator", name := "lambda$reciprocal$11", desc := "(JJ)LGameCalculator$Form;" } : Jvm.MethodName)) ∈ lw_all := lw_g (lw_at lw_m8 17 rfl) rfl
theorem q1829 : (Jvm.Cond.code ({ cls := "GameCalculator", name := "lambda$reciprocal$11", desc := "(JJ)LGameCalculator$Form;" } : Jvm.MethodName) prog_1_method_74_code (5 : Nat) (Option.some (Jvm.ClassFile.FieldType.object "GameCalculator$Form"))) ∈ lw_all := lw_g (lw_at lw_m8 18 rfl) rfl
theorem q1831 : (Jvm.Cond.instanceMethod ({ cls := "GameCalculator", name := "simplest", desc := "(III)I" } : Jvm.MethodName)) ∈ lw_all := lw_g (lw_at lw_m8 20 rfl) rfl
theorem q1832 : (Jvm.Cond.selects "GameCalculator" ({ cls := "GameCalculator", name := "simplest", desc := "(III)I" } : Jvm.MethodName) ({ cls := "GameCalculator", name := "simplest", desc := "(III)I" } : Jvm.MethodName)) ∈ lw_all := lw_g (lw_at lw_m8 21 rfl) rfl
theorem q1833 : (Jvm.Cond.code ({ cls := "GameCalculator", name := "simplest", desc := "(III)I" } : Jvm.MethodName) prog_1_method_48_code (8 : Nat) (Option.some Jvm.ClassFile.FieldType.int)) ∈ lw_all := lw_g (lw_at lw_m8 22 rfl) rfl
theorem q1834 : (Jvm.Cond.privateMethod ({ cls := "GameCalculator", name := "lambda$simplest$12", desc := "(JJ)LGameCalculator$Form;" } : Jvm.MethodName)) ∈ lw_tbl := lw_at lw_m8 23 rfl
theorem q1835 : (Jvm.Cond.instanceMethod ({ cls := "GameCalculator", name := "lambda$simplest$12", desc := "(JJ)LGameCalculator$Form;" } : Jvm.MethodName)) ∈ lw_all := lw_g (lw_at lw_m8 24 rfl) rfl
theorem q1836 : (Jvm.Cond.code ({ cls := "GameCalculator", name := "lambda$simplest$12", desc := "(JJ)LGameCalculator$Form;" } : Jvm.MethodName) prog_1_method_73_code (5 : Nat) (Option.some (Jvm.ClassFile.FieldType.object "GameCalculator$Form"))) ∈ lw_all := lw_g (lw_at lw_m8 25 rfl) rfl
theorem q1838 : (Jvm.Cond.instanceMethod ({ cls := "GameCalculator", name := "appendSign", desc := "(I)I" } : Jvm.MethodName)) ∈ lw_all := lw_g (lw_at lw_m8 27 rfl) rfl
theorem q1839 : (Jvm.Cond.selects "GameCalculator" ({ cls := "GameCalculator", name := "appendSign", desc := "(I)I" } : Jvm.MethodName) ({ cls := "GameCalculator", name := "appendSign", desc := "(I)I" } : Jvm.MethodName)) ∈ lw_all := lw_g (lw_at lw_m8 28 rfl) rfl
theorem q1840 : (Jvm.Cond.code ({ cls := "GameCalculator", name := "appendSign", desc := "(I)I" } : Jvm.MethodName) prog_1_method_49_code (2 : Nat) (Option.some Jvm.ClassFile.FieldType.int)) ∈ lw_all := lw_g (lw_at lw_m8 29 rfl) rfl
theorem q1842 : (Jvm.Cond.instanceMethod ({ cls := "GameCalculator", name := "makeSigns", desc := "(I)I" } : Jvm.MethodName)) ∈ lw_all := lw_g (lw_at lw_m8 31 rfl) rfl
theorem q1843 : (Jvm.Cond.selects "GameCalculator" ({ cls := "GameCalculator", name := "makeSigns", desc := "(I)I" } : Jvm.MethodName) ({ cls := "GameCalculator", name := "makeSigns", desc := "(I)I" } : Jvm.MethodName)) ∈ lw_all := lw_g (lw_at lw_m8 32 rfl) rfl
theorem q1844 : (Jvm.Cond.code ({ cls := "GameCalculator", name := "makeSigns", desc := "(I)I" } : Jvm.MethodName) prog_1_method_50_code (3 : Nat) (Option.some Jvm.ClassFile.FieldType.int)) ∈ lw_all := lw_g (lw_at lw_m8 33 rfl) rfl
theorem q1845 : (Jvm.Cond.privateMethod ({ cls := "GameCalculator", name := "lambda$makeSigns$13", desc := "()LGameCalculator$Form;" } : Jvm.MethodName)) ∈ lw_tbl := lw_at lw_m8 34 rfl
theorem q1846 : (Jvm.Cond.instanceMethod ({ cls := "GameCalculator", name := "lambda$makeSigns$13", desc := "()LGameCalculator$Form;" } : Jvm.MethodName)) ∈ lw_all := lw_g (lw_at lw_m8 35 rfl) rfl
theorem q1847 : (Jvm.Cond.code ({ cls := "GameCalculator", name := "lambda$makeSigns$13", desc := "()LGameCalculator$Form;" } : Jvm.MethodName) prog_1_method_72_code (1 : Nat) (Option.some (Jvm.ClassFile.FieldType.object "GameCalculator$Form"))) ∈ lw_all := lw_g (lw_at lw_m8 36 rfl) rfl
theorem q1848 : (Jvm.Cond.methodLink "GameCalculator" (386 : Nat) ({ cls := "java/util/BitSet", name := "clear", desc := "()V" } : Jvm.MethodName)) ∈ lw_all := lw_g (lw_at lw_m8 37 rfl) rfl
theorem q1853 : (Jvm.Cond.instanceMethod ({ cls := "GameCalculator", name := "sign", desc := "(II)I" } : Jvm.MethodName)) ∈ lw_all := lw_g (lw_at lw_m8 42 rfl) rfl
theorem q1854 : (Jvm.Cond.selects "GameCalculator" ({ cls := "GameCalculator", name := "sign", desc := "(II)I" } : Jvm.MethodName) ({ cls := "GameCalculator", name := "sign", desc := "(II)I" } : Jvm.MethodName)) ∈ lw_all := lw_g (lw_at lw_m8 43 rfl) rfl
theorem q1855 : (Jvm.Cond.code ({ cls := "GameCalculator", name := "sign", desc := "(II)I" } : Jvm.MethodName) prog_1_method_51_code (6 : Nat) (Option.some Jvm.ClassFile.FieldType.int)) ∈ lw_all := lw_g (lw_at lw_m8 44 rfl) rfl
theorem q1857 : (Jvm.Cond.instanceMethod ({ cls := "GameCalculator", name := "appendCharacter", desc := "(I)I" } : Jvm.MethodName)) ∈ lw_all := lw_g (lw_at lw_m8 46 rfl) rfl
theorem q1858 : (Jvm.Cond.selects "GameCalculator" ({ cls := "GameCalculator", name := "appendCharacter", desc := "(I)I" } : Jvm.MethodName) ({ cls := "GameCalculator", name := "appendCharacter", desc := "(I)I" } : Jvm.MethodName)) ∈ lw_all := lw_g (lw_at lw_m8 47 rfl) rfl
theorem q1859 : (Jvm.Cond.code ({ cls := "GameCalculator", name := "appendCharacter", desc := "(I)I" } : Jvm.MethodName) prog_1_method_52_code (2 : Nat) (Option.some Jvm.ClassFile.FieldType.int)) ∈ lw_all := lw_g (lw_at lw_m8 48 rfl) rfl
theorem q1860 : (Jvm.Cond.methodLink "GameCalculator" (387 : Nat) ({ cls := "java/lang/StringBuilder", name := "length", desc := "()I" } : Jvm.MethodName)) ∈ lw_all := lw_g (lw_at lw_m8 49 rfl) rfl
theorem q1861 : (Jvm.Cond.methodLink "GameCalculator" (390 : Nat) ({ cls := "java/lang/StringBuilder", name := "append", desc := "(C)Ljava/lang/StringBuilder;" } : Jvm.MethodName)) ∈ lw_all := lw_g (lw_at lw_m8 50 rfl) rfl
theorem q1882 : (Jvm.Cond.instanceMethod ({ cls := "GameCalculator", name := "clearText", desc := "()I" } : Jvm.MethodName)) ∈ lw_all := lw_g (lw_at lw_m8 71 rfl) rfl
theorem q1883 : (Jvm.Cond.selects "GameCalculator" ({ cls := "GameCalculator", name := "clearText", desc := "()I" } : Jvm.MethodName) ({ cls := "GameCalculator", name := "clearText", desc := "()I" } : Jvm.MethodName)) ∈ lw_all := lw_g (lw_at lw_m8 72 rfl) rfl
theorem q1884 : (Jvm.Cond.code ({ cls := "GameCalculator", name := "clearText", desc := "()I" } : Jvm.MethodName) prog_1_method_53_code (2 : Nat) (Option.some Jvm.ClassFile.FieldType.int)) ∈ lw_all := lw_g (lw_at lw_m8 73 rfl) rfl
theorem q1885 : (Jvm.Cond.methodLink "GameCalculator" (394 : Nat) ({ cls := "java/lang/StringBuilder", name := "setLength", desc := "(I)V" } : Jvm.MethodName)) ∈ lw_all := lw_g (lw_at lw_m8 74 rfl) rfl
theorem q1906 : (Jvm.Cond.instanceMethod ({ cls := "GameCalculator", name := "evaluate", desc := "(I)I" } : Jvm.MethodName)) ∈ lw_all := lw_g (lw_at lw_m8 95 rfl) rfl
theorem q1907 : (Jvm.Cond.selects "GameCalculator" ({ cls := "GameCalculator", name := "evaluate", desc := "(I)I" } : Jvm.MethodName) ({ cls := "GameCalculator", name := "evaluate", desc := "(I)I" } : Jvm.MethodName)) ∈ lw_all := lw_g (lw_at lw_m8 96 rfl) rfl
theorem q1908 : (Jvm.Cond.codeWith ({ cls := "GameCalculator", name := "evaluate", desc := "(I)I" } : Jvm.MethodName) prog_1_method_54_code (5 : Nat) (Option.some Jvm.ClassFile.FieldType.int) [((11 : Nat), (23 : Nat), (26 : Nat), (406 : Nat))]) ∈ lw_all := lw_g (lw_at lw_m8 97 rfl) rfl
theorem q1909 : (Jvm.Cond.classLink "GameCalculator" (406 : Nat) "GameCalculator$SyntaxException") ∈ lw_all := lw_g (lw_at lw_m8 98 rfl) rfl
theorem q1910 : (Jvm.Cond.classLink "GameCalculator" (397 : Nat) "GameCalculator$Parser") ∈ lw_all := lw_g (lw_at lw_m8 99 rfl) rfl
theorem q1912 : (Jvm.Cond.methodLinkNest "GameCalculator" (399 : Nat) ({ cls := "GameCalculator$Parser", name := "<init>", desc := "(LGameCalculator;)V" } : Jvm.MethodName) "GameCalculator") ∈ lw_tbl := lw_at lw_m8 101 rfl
theorem q1926 : (Jvm.Cond.methodLink "GameCalculator" (402 : Nat) ({ cls := "GameCalculator$Parser", name := "parse", desc := "()LGameCalculator$Expression;" } : Jvm.MethodName)) ∈ lw_all := lw_g (lw_at lw_m8 115 rfl) rfl
theorem q1989 : (Jvm.Cond.fieldLinkNest "GameCalculator" (408 : Nat) "GameCalculator$SyntaxException" "position" "I" "GameCalculator") ∈ lw_tbl := lw_at lw_m8 178 rfl
theorem q2102 : (Jvm.Cond.static ({ cls := "GameCalculator", name := "lambda$evaluate$14", desc := "(LGameCalculator$Expression;)LGameCalculator$Form;" } : Jvm.MethodName)) ∈ lw_all := lw_g (lw_at lw_m9 51 rfl) rfl
theorem q2103 : (Jvm.Cond.code ({ cls := "GameCalculator", name := "lambda$evaluate$14", desc := "(LGameCalculator$Expression;)LGameCalculator$Form;" } : Jvm.MethodName) prog_1_method_71_code (1 : Nat) (Option.some (Jvm.ClassFile.FieldType.object "GameCalculator$Form"))) ∈ lw_all := lw_g (lw_at lw_m9 52 rfl) rfl
theorem q2104 : (Jvm.Cond.methodLink "GameCalculator" (463 : Nat) ({ cls := "GameCalculator$Expression", name := "evaluate", desc := "()LGameCalculator$Form;" } : Jvm.MethodName)) ∈ lw_all := lw_g (lw_at lw_m9 53 rfl) rfl
theorem q2141 : (Jvm.Cond.instanceMethod ({ cls := "GameCalculator", name := "compare", desc := "(II)I" } : Jvm.MethodName)) ∈ lw_all := lw_g (lw_at lw_m9 90 rfl) rfl
theorem q2142 : (Jvm.Cond.selects "GameCalculator" ({ cls := "GameCalculator", name := "compare", desc := "(II)I" } : Jvm.MethodName) ({ cls := "GameCalculator", name := "compare", desc := "(II)I" } : Jvm.MethodName)) ∈ lw_all := lw_g (lw_at lw_m9 91 rfl) rfl
theorem q2143 : (Jvm.Cond.code ({ cls := "GameCalculator", name := "compare", desc := "(II)I" } : Jvm.MethodName) prog_1_method_55_code (8 : Nat) (Option.some Jvm.ClassFile.FieldType.int)) ∈ lw_all := lw_g (lw_at lw_m9 92 rfl) rfl
theorem q2144 : (Jvm.Cond.methodLink "GameCalculator" (414 : Nat) ({ cls := "GameCalculator$Arena", name := "isAtMost", desc := "(LGameCalculator$Game;LGameCalculator$Game;)Z" } : Jvm.MethodName)) ∈ lw_all := lw_g (lw_at lw_m9 93 rfl) rfl
theorem q2146 : (Jvm.Cond.instanceMethod ({ cls := "GameCalculator", name := "outcome", desc := "(I)I" } : Jvm.MethodName)) ∈ lw_all := lw_g (lw_at lw_m9 95 rfl) rfl
theorem q2147 : (Jvm.Cond.selects "GameCalculator" ({ cls := "GameCalculator", name := "outcome", desc := "(I)I" } : Jvm.MethodName) ({ cls := "GameCalculator", name := "outcome", desc := "(I)I" } : Jvm.MethodName)) ∈ lw_all := lw_g (lw_at lw_m9 96 rfl) rfl
theorem q2148 : (Jvm.Cond.code ({ cls := "GameCalculator", name := "outcome", desc := "(I)I" } : Jvm.MethodName) prog_1_method_56_code (7 : Nat) (Option.some Jvm.ClassFile.FieldType.int)) ∈ lw_all := lw_g (lw_at lw_m9 97 rfl) rfl
theorem q2150 : (Jvm.Cond.instanceMethod ({ cls := "GameCalculator", name := "winningMove", desc := "(II)I" } : Jvm.MethodName)) ∈ lw_all := lw_g (lw_at lw_m9 99 rfl) rfl
theorem q2151 : (Jvm.Cond.selects "GameCalculator" ({ cls := "GameCalculator", name := "winningMove", desc := "(II)I" } : Jvm.MethodName) ({ cls := "GameCalculator", name := "winningMove", desc := "(II)I" } : Jvm.MethodName)) ∈ lw_all := lw_g (lw_at lw_m9 100 rfl) rfl
theorem q2152 : (Jvm.Cond.code ({ cls := "GameCalculator", name := "winningMove", desc := "(II)I" } : Jvm.MethodName) prog_1_method_57_code (7 : Nat) (Option.some Jvm.ClassFile.FieldType.int)) ∈ lw_all := lw_g (lw_at lw_m9 101 rfl) rfl
theorem q2153 : (Jvm.Cond.methodLink "GameCalculator" (418 : Nat) ({ cls := "GameCalculator$Arena", name := "isNoBetter", desc := "(ILGameCalculator$Game;LGameCalculator$Game;)Z" } : Jvm.MethodName)) ∈ lw_all := lw_g (lw_at lw_m9 102 rfl) rfl
theorem q2155 : (Jvm.Cond.instanceMethod ({ cls := "GameCalculator", name := "birthday", desc := "(I)I" } : Jvm.MethodName)) ∈ lw_all := lw_g (lw_at lw_m9 104 rfl) rfl
theorem q2156 : (Jvm.Cond.selects "GameCalculator" ({ cls := "GameCalculator", name := "birthday", desc := "(I)I" } : Jvm.MethodName) ({ cls := "GameCalculator", name := "birthday", desc := "(I)I" } : Jvm.MethodName)) ∈ lw_all := lw_g (lw_at lw_m9 105 rfl) rfl
theorem q2157 : (Jvm.Cond.code ({ cls := "GameCalculator", name := "birthday", desc := "(I)I" } : Jvm.MethodName) prog_1_method_58_code (2 : Nat) (Option.some Jvm.ClassFile.FieldType.int)) ∈ lw_all := lw_g (lw_at lw_m9 106 rfl) rfl
theorem q2159 : (Jvm.Cond.instanceMethod ({ cls := "GameCalculator", name := "positions", desc := "(I)I" } : Jvm.MethodName)) ∈ lw_all := lw_g (lw_at lw_m9 108 rfl) rfl
theorem q2160 : (Jvm.Cond.selects "GameCalculator" ({ cls := "GameCalculator", name := "positions", desc := "(I)I" } : Jvm.MethodName) ({ cls := "GameCalculator", name := "positions", desc := "(I)I" } : Jvm.MethodName)) ∈ lw_all := lw_g (lw_at lw_m9 109 rfl) rfl
theorem q2161 : (Jvm.Cond.code ({ cls := "GameCalculator", name := "positions", desc := "(I)I" } : Jvm.MethodName) prog_1_method_59_code (2 : Nat) (Option.some Jvm.ClassFile.FieldType.int)) ∈ lw_all := lw_g (lw_at lw_m9 110 rfl) rfl
theorem q2163 : (Jvm.Cond.instanceMethod ({ cls := "GameCalculator", name := "options", desc := "(II)I" } : Jvm.MethodName)) ∈ lw_all := lw_g (lw_at lw_m9 112 rfl) rfl
theorem q2164 : (Jvm.Cond.selects "GameCalculator" ({ cls := "GameCalculator", name := "options", desc := "(II)I" } : Jvm.MethodName) ({ cls := "GameCalculator", name := "options", desc := "(II)I" } : Jvm.MethodName)) ∈ lw_all := lw_g (lw_at lw_m9 113 rfl) rfl
theorem q2165 : (Jvm.Cond.code ({ cls := "GameCalculator", name := "options", desc := "(II)I" } : Jvm.MethodName) prog_1_method_60_code (3 : Nat) (Option.some Jvm.ClassFile.FieldType.int)) ∈ lw_all := lw_g (lw_at lw_m9 114 rfl) rfl
theorem q2166 : (Jvm.Cond.methodLink "GameCalculator" (425 : Nat) ({ cls := "GameCalculator$Form", name := "optionCount", desc := "(I)I" } : Jvm.MethodName)) ∈ lw_all := lw_g (lw_at lw_m9 115 rfl) rfl
theorem q2172 : (Jvm.Cond.instanceMethod ({ cls := "GameCalculator", name := "number", desc := "(II)I" } : Jvm.MethodName)) ∈ lw_all := lw_g (lw_at lw_m9 121 rfl) rfl
theorem q2173 : (Jvm.Cond.selects "GameCalculator" ({ cls := "GameCalculator", name := "number", desc := "(II)I" } : Jvm.MethodName) ({ cls := "GameCalculator", name := "number", desc := "(II)I" } : Jvm.MethodName)) ∈ lw_all := lw_g (lw_at lw_m9 122 rfl) rfl
theorem q2174 : (Jvm.Cond.code ({ cls := "GameCalculator", name := "number", desc := "(II)I" } : Jvm.MethodName) prog_1_method_62_code (5 : Nat) (Option.some Jvm.ClassFile.FieldType.int)) ∈ lw_all := lw_g (lw_at lw_m9 123 rfl) rfl
theorem q2175 : (Jvm.Cond.methodLink "GameCalculator" (428 : Nat) ({ cls := "GameCalculator", name := "isPart", desc := "(I)Z" } : Jvm.MethodName)) ∈ lw_all := lw_g (lw_at lw_m9 124 rfl) rfl
theorem q2176 : (Jvm.Cond.static ({ cls := "GameCalculator", name := "isPart", desc := "(I)Z" } : Jvm.MethodName)) ∈ lw_all := lw_g (lw_at lw_m9 125 rfl) rfl
theorem q2177 : (Jvm.Cond.code ({ cls := "GameCalculator", name := "isPart", desc := "(I)Z" } : Jvm.MethodName) prog_1_method_61_code (1 : Nat) (Option.some Jvm.ClassFile.FieldType.boolean)) ∈ lw_all := lw_g (lw_at lw_m9 126 rfl) rfl
theorem q2178 : (Jvm.Cond.methodLink "GameCalculator" (431 : Nat) ({ cls := "GameCalculator", name := "part", desc := "(JI)I" } : Jvm.MethodName)) ∈ lw_all := lw_g (lw_at lw_m9 127 rfl) rfl
theorem q2179 : (Jvm.Cond.static ({ cls := "GameCalculator", name := "part", desc := "(JI)I" } : Jvm.MethodName)) ∈ lw_all := lw_g (lw_at lw_m9 128 rfl) rfl
theorem q2180 : (Jvm.Cond.code ({ cls := "GameCalculator", name := "part", desc := "(JI)I" } : Jvm.MethodName) prog_1_method_21_code (4 : Nat) (Option.some Jvm.ClassFile.FieldType.int)) ∈ lw_all := lw_g (lw_at lw_m9 129 rfl) rfl
theorem q2182 : (Jvm.Cond.instanceMethod ({ cls := "GameCalculator", name := "nimber", desc := "(I)I" } : Jvm.MethodName)) ∈ lw_all := lw_g (lw_at lw_m9 131 rfl) rfl
theorem q2183 : (Jvm.Cond.selects "GameCalculator" ({ cls := "GameCalculator", name := "nimber", desc := "(I)I" } : Jvm.MethodName) ({ cls := "GameCalculator", name := "nimber", desc := "(I)I" } : Jvm.MethodName)) ∈ lw_all := lw_g (lw_at lw_m9 132 rfl) rfl
theorem q2184 : (Jvm.Cond.code ({ cls := "GameCalculator", name := "nimber", desc := "(I)I" } : Jvm.MethodName) prog_1_method_63_code (5 : Nat) (Option.some Jvm.ClassFile.FieldType.int)) ∈ lw_all := lw_g (lw_at lw_m9 133 rfl) rfl
theorem q2186 : (Jvm.Cond.instanceMethod ({ cls := "GameCalculator", name := "ups", desc := "(II)I" } : Jvm.MethodName)) ∈ lw_all := lw_g (lw_at lw_m9 135 rfl) rfl
theorem q2187 : (Jvm.Cond.selects "GameCalculator" ({ cls := "GameCalculator", name := "ups", desc := "(II)I" } : Jvm.MethodName) ({ cls := "GameCalculator", name := "ups", desc := "(II)I" } : Jvm.MethodName)) ∈ lw_all := lw_g (lw_at lw_m9 136 rfl) rfl
theorem q2188 : (Jvm.Cond.codeWith ({ cls := "GameCalculator", name := "ups", desc := "(II)I" } : Jvm.MethodName) prog_1_method_64_code (6 : Nat) (Option.some Jvm.ClassFile.FieldType.int) [((35 : Nat), (67 : Nat), (71 : Nat), (21 : Nat))]) ∈ lw_all := lw_g (lw_at lw_m9 137 rfl) rfl
theorem q2190 : (Jvm.Cond.instanceMethod ({ cls := "GameCalculator", name := "isInfinitesimal", desc := "(I)I" } : Jvm.MethodName)) ∈ lw_all := lw_g (lw_at lw_m9 139 rfl) rfl
theorem q2191 : (Jvm.Cond.selects "GameCalculator" ({ cls := "GameCalculator", name := "isInfinitesimal", desc := "(I)I" } : Jvm.MethodName) ({ cls := "GameCalculator", name := "isInfinitesimal", desc := "(I)I" } : Jvm.MethodName)) ∈ lw_all := lw_g (lw_at lw_m9 140 rfl) rfl
theorem q2192 : (Jvm.Cond.code ({ cls := "GameCalculator", name := "isInfinitesimal", desc := "(I)I" } : Jvm.MethodName) prog_1_method_65_code (3 : Nat) (Option.some Jvm.ClassFile.FieldType.int)) ∈ lw_all := lw_g (lw_at lw_m9 141 rfl) rfl
theorem q2193 : (Jvm.Cond.classLink "GameCalculator" (439 : Nat) "GameCalculator$Thermograph") ∈ lw_all := lw_g (lw_at lw_m9 142 rfl) rfl
theorem q2195 : (Jvm.Cond.methodLink "GameCalculator" (441 : Nat) ({ cls := "GameCalculator$Thermograph", name := "<init>", desc := "(LGameCalculator$Form;)V" } : Jvm.MethodName)) ∈ lw_all := lw_g (lw_at lw_m9 144 rfl) rfl
theorem q2282 : (Jvm.Cond.fieldLinkNest "GameCalculator" (448 : Nat) "GameCalculator$Thermograph" "temperature" "J" "GameCalculator") ∈ lw_tbl := lw_at lw_m9 231 rfl
theorem q2296 : (Jvm.Cond.methodLink "GameCalculator" (444 : Nat) ({ cls := "GameCalculator$Thermograph", name := "at", desc := "(IJ)J" } : Jvm.MethodName)) ∈ lw_all := lw_g (lw_at lw_m10 5 rfl) rfl
theorem q2301 : (Jvm.Cond.instanceMethod ({ cls := "GameCalculator", name := "stop", desc := "(III)I" } : Jvm.MethodName)) ∈ lw_all := lw_g (lw_at lw_m10 10 rfl) rfl
theorem q2302 : (Jvm.Cond.selects "GameCalculator" ({ cls := "GameCalculator", name := "stop", desc := "(III)I" } : Jvm.MethodName) ({ cls := "GameCalculator", name := "stop", desc := "(III)I" } : Jvm.MethodName)) ∈ lw_all := lw_g (lw_at lw_m10 11 rfl) rfl
theorem q2303 : (Jvm.Cond.code ({ cls := "GameCalculator", name := "stop", desc := "(III)I" } : Jvm.MethodName) prog_1_method_66_code (4 : Nat) (Option.some Jvm.ClassFile.FieldType.int)) ∈ lw_all := lw_g (lw_at lw_m10 12 rfl) rfl
theorem q2305 : (Jvm.Cond.instanceMethod ({ cls := "GameCalculator", name := "mean", desc := "(II)I" } : Jvm.MethodName)) ∈ lw_all := lw_g (lw_at lw_m10 14 rfl) rfl
theorem q2306 : (Jvm.Cond.selects "GameCalculator" ({ cls := "GameCalculator", name := "mean", desc := "(II)I" } : Jvm.MethodName) ({ cls := "GameCalculator", name := "mean", desc := "(II)I" } : Jvm.MethodName)) ∈ lw_all := lw_g (lw_at lw_m10 15 rfl) rfl
theorem q2307 : (Jvm.Cond.code ({ cls := "GameCalculator", name := "mean", desc := "(II)I" } : Jvm.MethodName) prog_1_method_67_code (4 : Nat) (Option.some Jvm.ClassFile.FieldType.int)) ∈ lw_all := lw_g (lw_at lw_m10 16 rfl) rfl
theorem q2309 : (Jvm.Cond.instanceMethod ({ cls := "GameCalculator", name := "temperature", desc := "(II)I" } : Jvm.MethodName)) ∈ lw_all := lw_g (lw_at lw_m10 18 rfl) rfl
theorem q2310 : (Jvm.Cond.selects "GameCalculator" ({ cls := "GameCalculator", name := "temperature", desc := "(II)I" } : Jvm.MethodName) ({ cls := "GameCalculator", name := "temperature", desc := "(II)I" } : Jvm.MethodName)) ∈ lw_all := lw_g (lw_at lw_m10 19 rfl) rfl
theorem q2311 : (Jvm.Cond.code ({ cls := "GameCalculator", name := "temperature", desc := "(II)I" } : Jvm.MethodName) prog_1_method_68_code (4 : Nat) (Option.some Jvm.ClassFile.FieldType.int)) ∈ lw_all := lw_g (lw_at lw_m10 20 rfl) rfl
theorem q2313 : (Jvm.Cond.instanceMethod ({ cls := "GameCalculator", name := "wall", desc := "(IIIII)I" } : Jvm.MethodName)) ∈ lw_all := lw_g (lw_at lw_m10 22 rfl) rfl
theorem q2314 : (Jvm.Cond.selects "GameCalculator" ({ cls := "GameCalculator", name := "wall", desc := "(IIIII)I" } : Jvm.MethodName) ({ cls := "GameCalculator", name := "wall", desc := "(IIIII)I" } : Jvm.MethodName)) ∈ lw_all := lw_g (lw_at lw_m10 23 rfl) rfl
theorem q2315 : (Jvm.Cond.code ({ cls := "GameCalculator", name := "wall", desc := "(IIIII)I" } : Jvm.MethodName) prog_1_method_69_code (7 : Nat) (Option.some Jvm.ClassFile.FieldType.int)) ∈ lw_all := lw_g (lw_at lw_m10 24 rfl) rfl
theorem q2317 : (Jvm.Cond.instanceMethod ({ cls := "GameCalculator", name := "undo", desc := "()I" } : Jvm.MethodName)) ∈ lw_all := lw_g (lw_at lw_m10 26 rfl) rfl
theorem q2318 : (Jvm.Cond.selects "GameCalculator" ({ cls := "GameCalculator", name := "undo", desc := "()I" } : Jvm.MethodName) ({ cls := "GameCalculator", name := "undo", desc := "()I" } : Jvm.MethodName)) ∈ lw_all := lw_g (lw_at lw_m10 27 rfl) rfl
theorem q2319 : (Jvm.Cond.code ({ cls := "GameCalculator", name := "undo", desc := "()I" } : Jvm.MethodName) prog_1_method_70_code (2 : Nat) (Option.some Jvm.ClassFile.FieldType.int)) ∈ lw_all := lw_g (lw_at lw_m10 28 rfl) rfl
theorem q2320 : (Jvm.Cond.methodLink "GameCalculator" (451 : Nat) ({ cls := "java/util/ArrayDeque", name := "isEmpty", desc := "()Z" } : Jvm.MethodName)) ∈ lw_all := lw_g (lw_at lw_m10 29 rfl) rfl
theorem q2324 : (Jvm.Cond.methodLink "GameCalculator" (454 : Nat) ({ cls := "java/util/ArrayDeque", name := "removeLast", desc := "()Ljava/lang/Object;" } : Jvm.MethodName)) ∈ lw_all := lw_g (lw_at lw_m10 33 rfl) rfl
theorem q2335 : (Jvm.Cond.methodLink "GameCalculator" (457 : Nat) ({ cls := "java/lang/System", name := "arraycopy", desc := "(Ljava/lang/Object;ILjava/lang/Object;II)V" } : Jvm.MethodName)) ∈ lw_all := lw_g (lw_at lw_m10 44 rfl) rfl
theorem q2999 : (Jvm.Cond.castable "GameCalculator" "java/lang/Object") ∈ lw_tbl := lw_at lw_m12 228 rfl
theorem in_X0 : ∀ w ∈ wsX00, w ∈ lw_all := lw_in wsX00 [414, 416, 418, 420, 422, 424, 426, 428, 430, 432] (by decide +kernel) (by decide +kernel)
