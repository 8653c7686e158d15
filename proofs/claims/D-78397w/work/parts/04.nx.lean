/-! GameCalculator$Arena -/
set_option maxRecDepth 100000
def RX1 : String := "GameCalculator$Arena"
def TX1 : u_T := fun k => match k with
  | 0 => ("GameCalculator$Arena", "games", "Ljava/util/List;", true)
  | 1 => ("GameCalculator$Arena", "kept", "Ljava/util/List;", true)
  | 2 => ("GameCalculator$Arena", "asked", "LGameCalculator$Game;", true)
  | 3 => ("GameCalculator$Arena", "spare", "Ljava/util/List;", true)
  | _ => ("GameCalculator$Arena", "known", "[B", true)
def tyX1 : Nat → FieldType := fun k => match k with
  | 0 => .object "java/util/List"
  | 1 => .object "java/util/List"
  | 2 => .object "GameCalculator$Game"
  | 3 => .object "java/util/List"
  | _ => .array .byte
abbrev wsX10 : List Cond := u_ws RX1 TX1 5
theorem nmX1 : ∀ a, a < 5 → ∀ b, b < 5 → a ≠ b → (TX1 a).2.1 ≠ (TX1 b).2.1 := by decide +kernel
theorem tyX1_ok : ∀ k, k < 5 → parseFieldDescriptor (TX1 k).2.2.1 = some (tyX1 k) := by decide +kernel
abbrev cX1_init : ByteArray := prog_2_method_1_code
def yX1_init : MethodName := ⟨RX1, "<init>", "()V"⟩
def dkwX1_init_2 : List UInt8 := [183, 0, 11, 181, 0, 30, 42, 18, 33, 188, 8, 181, 0, 34, 177]
abbrev dktX1_init_2 : List UInt8 := dkwX1_init_2 ++ []
def dkwX1_init_1 : List UInt8 := [181, 0, 18, 42, 187, 0, 21, 89, 17, 2, 127, 183, 0, 23, 181, 0, 26, 42, 187, 0, 9, 89]
abbrev dktX1_init_1 : List UInt8 := dkwX1_init_1 ++ dktX1_init_2
def dkwX1_init_0 : List UInt8 := [42, 183, 0, 3, 42, 187, 0, 9, 89, 183, 0, 11, 181, 0, 12, 42, 187, 0, 9, 89, 183, 0, 11]
abbrev dktX1_init_0 : List UInt8 := dkwX1_init_0 ++ dktX1_init_1
theorem dksX1_init_0 : cX1_init.data.toList.drop 0 = dktX1_init_0 := by decide +kernel
theorem dksX1_init_1 : cX1_init.data.toList.drop 23 = dktX1_init_1 := dk_seg dksX1_init_0 23 rfl rfl
theorem dksX1_init_2 : cX1_init.data.toList.drop 45 = dktX1_init_2 := dk_seg dksX1_init_1 22 rfl rfl
theorem dX1_init_0 : decode cX1_init 0 = .ok (.aload_n 0, 1) := dk_42 (dk_at dksX1_init_0 0 rfl rfl)
theorem dX1_init_1 : decode cX1_init 1 = .ok (.invokespecial 3, 3) := dk_183 0 3 (dk_at dksX1_init_0 1 rfl rfl)
theorem dX1_init_4 : decode cX1_init 4 = .ok (.aload_n 0, 1) := dk_42 (dk_at dksX1_init_0 4 rfl rfl)
theorem dX1_init_5 : decode cX1_init 5 = .ok (.new 9, 3) := dk_187 0 9 (dk_at dksX1_init_0 5 rfl rfl)
theorem dX1_init_8 : decode cX1_init 8 = .ok (.dup, 1) := dk_89 (dk_at dksX1_init_0 8 rfl rfl)
theorem dX1_init_9 : decode cX1_init 9 = .ok (.invokespecial 11, 3) := dk_183 0 11 (dk_at dksX1_init_0 9 rfl rfl)
theorem dX1_init_12 : decode cX1_init 12 = .ok (.putfield 12, 3) := dk_181 0 12 (dk_at dksX1_init_0 12 rfl rfl)
theorem dX1_init_15 : decode cX1_init 15 = .ok (.aload_n 0, 1) := dk_42 (dk_at dksX1_init_0 15 rfl rfl)
theorem dX1_init_16 : decode cX1_init 16 = .ok (.new 9, 3) := dk_187 0 9 (dk_at dksX1_init_0 16 rfl rfl)
theorem dX1_init_19 : decode cX1_init 19 = .ok (.dup, 1) := dk_89 (dk_at dksX1_init_0 19 rfl rfl)
theorem dX1_init_20 : decode cX1_init 20 = .ok (.invokespecial 11, 3) := dk_183 0 11 (dk_at dksX1_init_0 20 rfl rfl)
theorem dX1_init_23 : decode cX1_init 23 = .ok (.putfield 18, 3) := dk_181 0 18 (dk_at dksX1_init_1 0 rfl rfl)
theorem dX1_init_26 : decode cX1_init 26 = .ok (.aload_n 0, 1) := dk_42 (dk_at dksX1_init_1 3 rfl rfl)
theorem dX1_init_27 : decode cX1_init 27 = .ok (.new 21, 3) := dk_187 0 21 (dk_at dksX1_init_1 4 rfl rfl)
theorem dX1_init_30 : decode cX1_init 30 = .ok (.dup, 1) := dk_89 (dk_at dksX1_init_1 7 rfl rfl)
theorem dX1_init_31 : decode cX1_init 31 = .ok (.sipush 639, 3) := dk_17 2 127 (dk_at dksX1_init_1 8 rfl rfl)
theorem dX1_init_34 : decode cX1_init 34 = .ok (.invokespecial 23, 3) := dk_183 0 23 (dk_at dksX1_init_1 11 rfl rfl)
theorem dX1_init_37 : decode cX1_init 37 = .ok (.putfield 26, 3) := dk_181 0 26 (dk_at dksX1_init_1 14 rfl rfl)
theorem dX1_init_40 : decode cX1_init 40 = .ok (.aload_n 0, 1) := dk_42 (dk_at dksX1_init_1 17 rfl rfl)
theorem dX1_init_41 : decode cX1_init 41 = .ok (.new 9, 3) := dk_187 0 9 (dk_at dksX1_init_1 18 rfl rfl)
theorem dX1_init_44 : decode cX1_init 44 = .ok (.dup, 1) := dk_89 (dk_at dksX1_init_1 21 rfl rfl)
theorem dX1_init_45 : decode cX1_init 45 = .ok (.invokespecial 11, 3) := dk_183 0 11 (dk_at dksX1_init_2 0 rfl rfl)
theorem dX1_init_48 : decode cX1_init 48 = .ok (.putfield 30, 3) := dk_181 0 30 (dk_at dksX1_init_2 3 rfl rfl)
theorem dX1_init_51 : decode cX1_init 51 = .ok (.aload_n 0, 1) := dk_42 (dk_at dksX1_init_2 6 rfl rfl)
theorem dX1_init_52 : decode cX1_init 52 = .ok (.ldc 33, 2) := dk_18 33 (dk_at dksX1_init_2 7 rfl rfl)
theorem dX1_init_54 : decode cX1_init 54 = .ok (.newarray .byte, 2) := dk_188_8 (dk_at dksX1_init_2 9 rfl rfl)
theorem dX1_init_56 : decode cX1_init 56 = .ok (.putfield 34, 3) := dk_181 0 34 (dk_at dksX1_init_2 11 rfl rfl)
theorem dX1_init_59 : decode cX1_init 59 = .ok (.return_, 1) := dk_177 (dk_at dksX1_init_2 14 rfl rfl)
abbrev cX1_clear : ByteArray := prog_2_method_2_code
def yX1_clear : MethodName := ⟨RX1, "clear", "()V"⟩
def dkwX1_clear_2 : List UInt8 := [167, 255, 227, 132, 1, 1, 167, 255, 206, 42, 180, 0, 12, 185, 0, 44, 1, 0, 177]
abbrev dktX1_clear_2 : List UInt8 := dkwX1_clear_2 ++ []
def dkwX1_clear_1 : List UInt8 := [185, 0, 38, 1, 0, 163, 0, 22, 42, 180, 0, 34, 17, 2, 128, 27, 104, 28, 96, 3, 84, 132, 2, 1]
abbrev dktX1_clear_1 : List UInt8 := dkwX1_clear_1 ++ dktX1_clear_2
def dkwX1_clear_0 : List UInt8 := [3, 60, 27, 42, 180, 0, 12, 185, 0, 38, 1, 0, 163, 0, 43, 3, 61, 28, 42, 180, 0, 12]
abbrev dktX1_clear_0 : List UInt8 := dkwX1_clear_0 ++ dktX1_clear_1
theorem dksX1_clear_0 : cX1_clear.data.toList.drop 0 = dktX1_clear_0 := by decide +kernel
theorem dksX1_clear_1 : cX1_clear.data.toList.drop 22 = dktX1_clear_1 := dk_seg dksX1_clear_0 22 rfl rfl
theorem dksX1_clear_2 : cX1_clear.data.toList.drop 46 = dktX1_clear_2 := dk_seg dksX1_clear_1 24 rfl rfl
theorem dX1_clear_0 : decode cX1_clear 0 = .ok (.iconst 0, 1) := dk_3 (dk_at dksX1_clear_0 0 rfl rfl)
theorem dX1_clear_1 : decode cX1_clear 1 = .ok (.istore_n 1, 1) := dk_60 (dk_at dksX1_clear_0 1 rfl rfl)
theorem dX1_clear_2 : decode cX1_clear 2 = .ok (.iload_n 1, 1) := dk_27 (dk_at dksX1_clear_0 2 rfl rfl)
theorem dX1_clear_3 : decode cX1_clear 3 = .ok (.aload_n 0, 1) := dk_42 (dk_at dksX1_clear_0 3 rfl rfl)
theorem dX1_clear_4 : decode cX1_clear 4 = .ok (.getfield 12, 3) := dk_180 0 12 (dk_at dksX1_clear_0 4 rfl rfl)
theorem dX1_clear_7 : decode cX1_clear 7 = .ok (.invokeinterface 38 1, 5) := by decide +kernel
theorem dX1_clear_12 : decode cX1_clear 12 = .ok (.if_icmp .gt 43, 3) := dk_163 0 43 (dk_at dksX1_clear_0 12 rfl rfl)
theorem dX1_clear_15 : decode cX1_clear 15 = .ok (.iconst 0, 1) := dk_3 (dk_at dksX1_clear_0 15 rfl rfl)
theorem dX1_clear_16 : decode cX1_clear 16 = .ok (.istore_n 2, 1) := dk_61 (dk_at dksX1_clear_0 16 rfl rfl)
theorem dX1_clear_17 : decode cX1_clear 17 = .ok (.iload_n 2, 1) := dk_28 (dk_at dksX1_clear_0 17 rfl rfl)
theorem dX1_clear_18 : decode cX1_clear 18 = .ok (.aload_n 0, 1) := dk_42 (dk_at dksX1_clear_0 18 rfl rfl)
theorem dX1_clear_19 : decode cX1_clear 19 = .ok (.getfield 12, 3) := dk_180 0 12 (dk_at dksX1_clear_0 19 rfl rfl)
theorem dX1_clear_22 : decode cX1_clear 22 = .ok (.invokeinterface 38 1, 5) := by decide +kernel
theorem dX1_clear_27 : decode cX1_clear 27 = .ok (.if_icmp .gt 22, 3) := dk_163 0 22 (dk_at dksX1_clear_1 5 rfl rfl)
theorem dX1_clear_30 : decode cX1_clear 30 = .ok (.aload_n 0, 1) := dk_42 (dk_at dksX1_clear_1 8 rfl rfl)
theorem dX1_clear_31 : decode cX1_clear 31 = .ok (.getfield 34, 3) := dk_180 0 34 (dk_at dksX1_clear_1 9 rfl rfl)
theorem dX1_clear_34 : decode cX1_clear 34 = .ok (.sipush 640, 3) := dk_17 2 128 (dk_at dksX1_clear_1 12 rfl rfl)
theorem dX1_clear_37 : decode cX1_clear 37 = .ok (.iload_n 1, 1) := dk_27 (dk_at dksX1_clear_1 15 rfl rfl)
theorem dX1_clear_38 : decode cX1_clear 38 = .ok (.imul, 1) := dk_104 (dk_at dksX1_clear_1 16 rfl rfl)
theorem dX1_clear_39 : decode cX1_clear 39 = .ok (.iload_n 2, 1) := dk_28 (dk_at dksX1_clear_1 17 rfl rfl)
theorem dX1_clear_40 : decode cX1_clear 40 = .ok (.iadd, 1) := dk_96 (dk_at dksX1_clear_1 18 rfl rfl)
theorem dX1_clear_41 : decode cX1_clear 41 = .ok (.iconst 0, 1) := dk_3 (dk_at dksX1_clear_1 19 rfl rfl)
theorem dX1_clear_42 : decode cX1_clear 42 = .ok (.bastore, 1) := dk_84 (dk_at dksX1_clear_1 20 rfl rfl)
theorem dX1_clear_43 : decode cX1_clear 43 = .ok (.iinc 2 1, 3) := dk_132 2 1 (dk_at dksX1_clear_1 21 rfl rfl)
theorem dX1_clear_46 : decode cX1_clear 46 = .ok (.goto (-29), 3) := dk_167 255 227 (dk_at dksX1_clear_2 0 rfl rfl)
theorem dX1_clear_49 : decode cX1_clear 49 = .ok (.iinc 1 1, 3) := dk_132 1 1 (dk_at dksX1_clear_2 3 rfl rfl)
theorem dX1_clear_52 : decode cX1_clear 52 = .ok (.goto (-50), 3) := dk_167 255 206 (dk_at dksX1_clear_2 6 rfl rfl)
theorem dX1_clear_55 : decode cX1_clear 55 = .ok (.aload_n 0, 1) := dk_42 (dk_at dksX1_clear_2 9 rfl rfl)
theorem dX1_clear_56 : decode cX1_clear 56 = .ok (.getfield 12, 3) := dk_180 0 12 (dk_at dksX1_clear_2 10 rfl rfl)
theorem dX1_clear_59 : decode cX1_clear 59 = .ok (.invokeinterface 44 1, 5) := by decide +kernel
theorem dX1_clear_64 : decode cX1_clear 64 = .ok (.return_, 1) := dk_177 (dk_at dksX1_clear_2 18 rfl rfl)
abbrev cX1_list : ByteArray := prog_2_method_5_code
def yX1_list : MethodName := ⟨RX1, "list", "()Ljava/util/List;"⟩
def dkwX1_list_1 : List UInt8 := [180, 0, 30, 42, 180, 0, 30, 185, 0, 38, 1, 0, 4, 100, 185, 0, 72, 2, 0, 192, 0, 39, 176]
abbrev dktX1_list_1 : List UInt8 := dkwX1_list_1 ++ []
def dkwX1_list_0 : List UInt8 := [42, 180, 0, 30, 185, 0, 68, 1, 0, 153, 0, 13, 187, 0, 9, 89, 183, 0, 11, 167, 0, 26, 42]
abbrev dktX1_list_0 : List UInt8 := dkwX1_list_0 ++ dktX1_list_1
theorem dksX1_list_0 : cX1_list.data.toList.drop 0 = dktX1_list_0 := by decide +kernel
theorem dksX1_list_1 : cX1_list.data.toList.drop 23 = dktX1_list_1 := dk_seg dksX1_list_0 23 rfl rfl
theorem dX1_list_0 : decode cX1_list 0 = .ok (.aload_n 0, 1) := dk_42 (dk_at dksX1_list_0 0 rfl rfl)
theorem dX1_list_1 : decode cX1_list 1 = .ok (.getfield 30, 3) := dk_180 0 30 (dk_at dksX1_list_0 1 rfl rfl)
theorem dX1_list_4 : decode cX1_list 4 = .ok (.invokeinterface 68 1, 5) := by decide +kernel
theorem dX1_list_9 : decode cX1_list 9 = .ok (.ifCond .eq 13, 3) := dk_153 0 13 (dk_at dksX1_list_0 9 rfl rfl)
theorem dX1_list_12 : decode cX1_list 12 = .ok (.new 9, 3) := dk_187 0 9 (dk_at dksX1_list_0 12 rfl rfl)
theorem dX1_list_15 : decode cX1_list 15 = .ok (.dup, 1) := dk_89 (dk_at dksX1_list_0 15 rfl rfl)
theorem dX1_list_16 : decode cX1_list 16 = .ok (.invokespecial 11, 3) := dk_183 0 11 (dk_at dksX1_list_0 16 rfl rfl)
theorem dX1_list_19 : decode cX1_list 19 = .ok (.goto 26, 3) := dk_167 0 26 (dk_at dksX1_list_0 19 rfl rfl)
theorem dX1_list_22 : decode cX1_list 22 = .ok (.aload_n 0, 1) := dk_42 (dk_at dksX1_list_0 22 rfl rfl)
theorem dX1_list_23 : decode cX1_list 23 = .ok (.getfield 30, 3) := dk_180 0 30 (dk_at dksX1_list_1 0 rfl rfl)
theorem dX1_list_26 : decode cX1_list 26 = .ok (.aload_n 0, 1) := dk_42 (dk_at dksX1_list_1 3 rfl rfl)
theorem dX1_list_27 : decode cX1_list 27 = .ok (.getfield 30, 3) := dk_180 0 30 (dk_at dksX1_list_1 4 rfl rfl)
theorem dX1_list_30 : decode cX1_list 30 = .ok (.invokeinterface 38 1, 5) := by decide +kernel
theorem dX1_list_35 : decode cX1_list 35 = .ok (.iconst 1, 1) := dk_4 (dk_at dksX1_list_1 12 rfl rfl)
theorem dX1_list_36 : decode cX1_list 36 = .ok (.isub, 1) := dk_100 (dk_at dksX1_list_1 13 rfl rfl)
theorem dX1_list_37 : decode cX1_list 37 = .ok (.invokeinterface 72 2, 5) := by decide +kernel
theorem dX1_list_42 : decode cX1_list 42 = .ok (.checkcast 39, 3) := dk_192 0 39 (dk_at dksX1_list_1 19 rfl rfl)
theorem dX1_list_45 : decode cX1_list 45 = .ok (.areturn, 1) := dk_176 (dk_at dksX1_list_1 22 rfl rfl)
abbrev cX1_intern : ByteArray := prog_2_method_7_code
def yX1_intern : MethodName := ⟨RX1, "intern", "(Ljava/util/List;Ljava/util/List;)LGameCalculator$Game;"⟩
def dkwX1_intern_6 : List UInt8 := [45, 185, 0, 75, 2, 0, 87, 45, 176]
abbrev dktX1_intern_6 : List UInt8 := dkwX1_intern_6 ++ []
def dkwX1_intern_5 : List UInt8 := [185, 0, 38, 1, 0, 185, 0, 58, 2, 0, 192, 0, 21, 78, 45, 43, 44, 182, 0, 83, 42, 180, 0, 12]
abbrev dktX1_intern_5 : List UInt8 := dkwX1_intern_5 ++ dktX1_intern_6
def dkwX1_intern_4 : List UInt8 := [185, 0, 38, 1, 0, 183, 0, 23, 185, 0, 75, 2, 0, 87, 42, 180, 0, 18, 42, 180, 0, 12]
abbrev dktX1_intern_4 : List UInt8 := dkwX1_intern_4 ++ dktX1_intern_5
def dkwX1_intern_3 : List UInt8 := [42, 180, 0, 12, 185, 0, 38, 1, 0, 160, 0, 29, 42, 180, 0, 18, 187, 0, 21, 89, 42, 180, 0, 18]
abbrev dktX1_intern_3 : List UInt8 := dkwX1_intern_3 ++ dktX1_intern_4
def dkwX1_intern_2 : List UInt8 := [185, 0, 58, 2, 0, 192, 0, 21, 176, 132, 3, 1, 167, 255, 205, 42, 180, 0, 18, 185, 0, 38, 1, 0]
abbrev dktX1_intern_2 : List UInt8 := dkwX1_intern_2 ++ dktX1_intern_3
def dkwX1_intern_1 : List UInt8 := [185, 0, 58, 2, 0, 192, 0, 21, 43, 44, 182, 0, 79, 153, 0, 17, 42, 180, 0, 12, 29]
abbrev dktX1_intern_1 : List UInt8 := dkwX1_intern_1 ++ dktX1_intern_2
def dkwX1_intern_0 : List UInt8 := [3, 62, 29, 42, 180, 0, 12, 185, 0, 38, 1, 0, 162, 0, 44, 42, 180, 0, 12, 29]
abbrev dktX1_intern_0 : List UInt8 := dkwX1_intern_0 ++ dktX1_intern_1
theorem dksX1_intern_0 : cX1_intern.data.toList.drop 0 = dktX1_intern_0 := by decide +kernel
theorem dksX1_intern_1 : cX1_intern.data.toList.drop 20 = dktX1_intern_1 := dk_seg dksX1_intern_0 20 rfl rfl
theorem dksX1_intern_2 : cX1_intern.data.toList.drop 41 = dktX1_intern_2 := dk_seg dksX1_intern_1 21 rfl rfl
theorem dksX1_intern_3 : cX1_intern.data.toList.drop 65 = dktX1_intern_3 := dk_seg dksX1_intern_2 24 rfl rfl
theorem dksX1_intern_4 : cX1_intern.data.toList.drop 89 = dktX1_intern_4 := dk_seg dksX1_intern_3 24 rfl rfl
theorem dksX1_intern_5 : cX1_intern.data.toList.drop 111 = dktX1_intern_5 := dk_seg dksX1_intern_4 22 rfl rfl
theorem dksX1_intern_6 : cX1_intern.data.toList.drop 135 = dktX1_intern_6 := dk_seg dksX1_intern_5 24 rfl rfl
theorem dX1_intern_0 : decode cX1_intern 0 = .ok (.iconst 0, 1) := dk_3 (dk_at dksX1_intern_0 0 rfl rfl)
theorem dX1_intern_1 : decode cX1_intern 1 = .ok (.istore_n 3, 1) := dk_62 (dk_at dksX1_intern_0 1 rfl rfl)
theorem dX1_intern_2 : decode cX1_intern 2 = .ok (.iload_n 3, 1) := dk_29 (dk_at dksX1_intern_0 2 rfl rfl)
theorem dX1_intern_3 : decode cX1_intern 3 = .ok (.aload_n 0, 1) := dk_42 (dk_at dksX1_intern_0 3 rfl rfl)
theorem dX1_intern_4 : decode cX1_intern 4 = .ok (.getfield 12, 3) := dk_180 0 12 (dk_at dksX1_intern_0 4 rfl rfl)
theorem dX1_intern_7 : decode cX1_intern 7 = .ok (.invokeinterface 38 1, 5) := by decide +kernel
theorem dX1_intern_12 : decode cX1_intern 12 = .ok (.if_icmp .ge 44, 3) := dk_162 0 44 (dk_at dksX1_intern_0 12 rfl rfl)
theorem dX1_intern_15 : decode cX1_intern 15 = .ok (.aload_n 0, 1) := dk_42 (dk_at dksX1_intern_0 15 rfl rfl)
theorem dX1_intern_16 : decode cX1_intern 16 = .ok (.getfield 12, 3) := dk_180 0 12 (dk_at dksX1_intern_0 16 rfl rfl)
theorem dX1_intern_19 : decode cX1_intern 19 = .ok (.iload_n 3, 1) := dk_29 (dk_at dksX1_intern_0 19 rfl rfl)
theorem dX1_intern_20 : decode cX1_intern 20 = .ok (.invokeinterface 58 2, 5) := by decide +kernel
theorem dX1_intern_25 : decode cX1_intern 25 = .ok (.checkcast 21, 3) := dk_192 0 21 (dk_at dksX1_intern_1 5 rfl rfl)
theorem dX1_intern_28 : decode cX1_intern 28 = .ok (.aload_n 1, 1) := dk_43 (dk_at dksX1_intern_1 8 rfl rfl)
theorem dX1_intern_29 : decode cX1_intern 29 = .ok (.aload_n 2, 1) := dk_44 (dk_at dksX1_intern_1 9 rfl rfl)
theorem dX1_intern_30 : decode cX1_intern 30 = .ok (.invokevirtual 79, 3) := dk_182 0 79 (dk_at dksX1_intern_1 10 rfl rfl)
theorem dX1_intern_33 : decode cX1_intern 33 = .ok (.ifCond .eq 17, 3) := dk_153 0 17 (dk_at dksX1_intern_1 13 rfl rfl)
theorem dX1_intern_36 : decode cX1_intern 36 = .ok (.aload_n 0, 1) := dk_42 (dk_at dksX1_intern_1 16 rfl rfl)
theorem dX1_intern_37 : decode cX1_intern 37 = .ok (.getfield 12, 3) := dk_180 0 12 (dk_at dksX1_intern_1 17 rfl rfl)
theorem dX1_intern_40 : decode cX1_intern 40 = .ok (.iload_n 3, 1) := dk_29 (dk_at dksX1_intern_1 20 rfl rfl)
theorem dX1_intern_41 : decode cX1_intern 41 = .ok (.invokeinterface 58 2, 5) := by decide +kernel
theorem dX1_intern_46 : decode cX1_intern 46 = .ok (.checkcast 21, 3) := dk_192 0 21 (dk_at dksX1_intern_2 5 rfl rfl)
theorem dX1_intern_49 : decode cX1_intern 49 = .ok (.areturn, 1) := dk_176 (dk_at dksX1_intern_2 8 rfl rfl)
theorem dX1_intern_50 : decode cX1_intern 50 = .ok (.iinc 3 1, 3) := dk_132 3 1 (dk_at dksX1_intern_2 9 rfl rfl)
theorem dX1_intern_53 : decode cX1_intern 53 = .ok (.goto (-51), 3) := dk_167 255 205 (dk_at dksX1_intern_2 12 rfl rfl)
theorem dX1_intern_56 : decode cX1_intern 56 = .ok (.aload_n 0, 1) := dk_42 (dk_at dksX1_intern_2 15 rfl rfl)
theorem dX1_intern_57 : decode cX1_intern 57 = .ok (.getfield 18, 3) := dk_180 0 18 (dk_at dksX1_intern_2 16 rfl rfl)
theorem dX1_intern_60 : decode cX1_intern 60 = .ok (.invokeinterface 38 1, 5) := by decide +kernel
theorem dX1_intern_65 : decode cX1_intern 65 = .ok (.aload_n 0, 1) := dk_42 (dk_at dksX1_intern_3 0 rfl rfl)
theorem dX1_intern_66 : decode cX1_intern 66 = .ok (.getfield 12, 3) := dk_180 0 12 (dk_at dksX1_intern_3 1 rfl rfl)
theorem dX1_intern_69 : decode cX1_intern 69 = .ok (.invokeinterface 38 1, 5) := by decide +kernel
theorem dX1_intern_74 : decode cX1_intern 74 = .ok (.if_icmp .ne 29, 3) := dk_160 0 29 (dk_at dksX1_intern_3 9 rfl rfl)
theorem dX1_intern_77 : decode cX1_intern 77 = .ok (.aload_n 0, 1) := dk_42 (dk_at dksX1_intern_3 12 rfl rfl)
theorem dX1_intern_78 : decode cX1_intern 78 = .ok (.getfield 18, 3) := dk_180 0 18 (dk_at dksX1_intern_3 13 rfl rfl)
theorem dX1_intern_81 : decode cX1_intern 81 = .ok (.new 21, 3) := dk_187 0 21 (dk_at dksX1_intern_3 16 rfl rfl)
theorem dX1_intern_84 : decode cX1_intern 84 = .ok (.dup, 1) := dk_89 (dk_at dksX1_intern_3 19 rfl rfl)
theorem dX1_intern_85 : decode cX1_intern 85 = .ok (.aload_n 0, 1) := dk_42 (dk_at dksX1_intern_3 20 rfl rfl)
theorem dX1_intern_86 : decode cX1_intern 86 = .ok (.getfield 18, 3) := dk_180 0 18 (dk_at dksX1_intern_3 21 rfl rfl)
theorem dX1_intern_89 : decode cX1_intern 89 = .ok (.invokeinterface 38 1, 5) := by decide +kernel
theorem dX1_intern_94 : decode cX1_intern 94 = .ok (.invokespecial 23, 3) := dk_183 0 23 (dk_at dksX1_intern_4 5 rfl rfl)
theorem dX1_intern_97 : decode cX1_intern 97 = .ok (.invokeinterface 75 2, 5) := by decide +kernel
theorem dX1_intern_102 : decode cX1_intern 102 = .ok (.pop, 1) := dk_87 (dk_at dksX1_intern_4 13 rfl rfl)
theorem dX1_intern_103 : decode cX1_intern 103 = .ok (.aload_n 0, 1) := dk_42 (dk_at dksX1_intern_4 14 rfl rfl)
theorem dX1_intern_104 : decode cX1_intern 104 = .ok (.getfield 18, 3) := dk_180 0 18 (dk_at dksX1_intern_4 15 rfl rfl)
theorem dX1_intern_107 : decode cX1_intern 107 = .ok (.aload_n 0, 1) := dk_42 (dk_at dksX1_intern_4 18 rfl rfl)
theorem dX1_intern_108 : decode cX1_intern 108 = .ok (.getfield 12, 3) := dk_180 0 12 (dk_at dksX1_intern_4 19 rfl rfl)
theorem dX1_intern_111 : decode cX1_intern 111 = .ok (.invokeinterface 38 1, 5) := by decide +kernel
theorem dX1_intern_116 : decode cX1_intern 116 = .ok (.invokeinterface 58 2, 5) := by decide +kernel
theorem dX1_intern_121 : decode cX1_intern 121 = .ok (.checkcast 21, 3) := dk_192 0 21 (dk_at dksX1_intern_5 10 rfl rfl)
theorem dX1_intern_124 : decode cX1_intern 124 = .ok (.astore_n 3, 1) := dk_78 (dk_at dksX1_intern_5 13 rfl rfl)
theorem dX1_intern_125 : decode cX1_intern 125 = .ok (.aload_n 3, 1) := dk_45 (dk_at dksX1_intern_5 14 rfl rfl)
theorem dX1_intern_126 : decode cX1_intern 126 = .ok (.aload_n 1, 1) := dk_43 (dk_at dksX1_intern_5 15 rfl rfl)
theorem dX1_intern_127 : decode cX1_intern 127 = .ok (.aload_n 2, 1) := dk_44 (dk_at dksX1_intern_5 16 rfl rfl)
theorem dX1_intern_128 : decode cX1_intern 128 = .ok (.invokevirtual 83, 3) := dk_182 0 83 (dk_at dksX1_intern_5 17 rfl rfl)
theorem dX1_intern_131 : decode cX1_intern 131 = .ok (.aload_n 0, 1) := dk_42 (dk_at dksX1_intern_5 20 rfl rfl)
theorem dX1_intern_132 : decode cX1_intern 132 = .ok (.getfield 12, 3) := dk_180 0 12 (dk_at dksX1_intern_5 21 rfl rfl)
theorem dX1_intern_135 : decode cX1_intern 135 = .ok (.aload_n 3, 1) := dk_45 (dk_at dksX1_intern_6 0 rfl rfl)
theorem dX1_intern_136 : decode cX1_intern 136 = .ok (.invokeinterface 75 2, 5) := by decide +kernel
theorem dX1_intern_141 : decode cX1_intern 141 = .ok (.pop, 1) := dk_87 (dk_at dksX1_intern_6 6 rfl rfl)
theorem dX1_intern_142 : decode cX1_intern 142 = .ok (.aload_n 3, 1) := dk_45 (dk_at dksX1_intern_6 7 rfl rfl)
theorem dX1_intern_143 : decode cX1_intern 143 = .ok (.areturn, 1) := dk_176 (dk_at dksX1_intern_6 8 rfl rfl)
abbrev cX1_giveBack : ByteArray := prog_2_method_6_code
def yX1_giveBack : MethodName := ⟨RX1, "giveBack", "(Ljava/util/List;)V"⟩
def dkwX1_giveBack_0 : List UInt8 := [43, 185, 0, 44, 1, 0, 42, 180, 0, 30, 43, 185, 0, 75, 2, 0, 87, 177]
abbrev dktX1_giveBack_0 : List UInt8 := dkwX1_giveBack_0 ++ []
theorem dksX1_giveBack_0 : cX1_giveBack.data.toList.drop 0 = dktX1_giveBack_0 := by decide +kernel
theorem dX1_giveBack_0 : decode cX1_giveBack 0 = .ok (.aload_n 1, 1) := dk_43 (dk_at dksX1_giveBack_0 0 rfl rfl)
theorem dX1_giveBack_1 : decode cX1_giveBack 1 = .ok (.invokeinterface 44 1, 5) := by decide +kernel
theorem dX1_giveBack_6 : decode cX1_giveBack 6 = .ok (.aload_n 0, 1) := dk_42 (dk_at dksX1_giveBack_0 6 rfl rfl)
theorem dX1_giveBack_7 : decode cX1_giveBack 7 = .ok (.getfield 30, 3) := dk_180 0 30 (dk_at dksX1_giveBack_0 7 rfl rfl)
theorem dX1_giveBack_10 : decode cX1_giveBack 10 = .ok (.aload_n 1, 1) := dk_43 (dk_at dksX1_giveBack_0 10 rfl rfl)
theorem dX1_giveBack_11 : decode cX1_giveBack 11 = .ok (.invokeinterface 75 2, 5) := by decide +kernel
theorem dX1_giveBack_16 : decode cX1_giveBack 16 = .ok (.pop, 1) := dk_87 (dk_at dksX1_giveBack_0 16 rfl rfl)
theorem dX1_giveBack_17 : decode cX1_giveBack 17 = .ok (.return_, 1) := dk_177 (dk_at dksX1_giveBack_0 17 rfl rfl)
abbrev cX1_form : ByteArray := prog_2_method_21_code
def yX1_form : MethodName := ⟨RX1, "form", "(LGameCalculator$Game;)LGameCalculator$Form;"⟩
def dkwX1_form_10 : List UInt8 := [182, 0, 132, 25, 4, 176]
abbrev dktX1_form_10 : List UInt8 := dkwX1_form_10 ++ []
def dkwX1_form_9 : List UInt8 := [185, 0, 58, 2, 0, 192, 0, 21, 180, 0, 65, 184, 0, 195, 79, 132, 5, 1, 167, 255, 191, 42, 45]
abbrev dktX1_form_9 : List UInt8 := dkwX1_form_9 ++ dktX1_form_10
def dkwX1_form_8 : List UInt8 := [192, 0, 21, 180, 0, 55, 184, 0, 195, 79, 25, 4, 180, 0, 165, 21, 5, 45, 45, 21, 5]
abbrev dktX1_form_8 : List UInt8 := dkwX1_form_8 ++ dktX1_form_9
def dkwX1_form_7 : List UInt8 := [25, 4, 180, 0, 152, 162, 0, 61, 25, 4, 180, 0, 157, 21, 5, 45, 45, 21, 5, 185, 0, 58, 2, 0]
abbrev dktX1_form_7 : List UInt8 := dkwX1_form_7 ++ dktX1_form_8
def dkwX1_form_6 : List UInt8 := [167, 255, 167, 187, 0, 153, 89, 45, 185, 0, 38, 1, 0, 183, 0, 194, 58, 4, 3, 54, 5, 21, 5]
abbrev dktX1_form_6 : List UInt8 := dkwX1_form_6 ++ dktX1_form_7
def dkwX1_form_5 : List UInt8 := [185, 0, 58, 2, 0, 192, 0, 21, 185, 0, 114, 3, 0, 44, 21, 4, 4, 96, 182, 0, 191, 54, 4]
abbrev dktX1_form_5 : List UInt8 := dkwX1_form_5 ++ dktX1_form_6
def dkwX1_form_4 : List UInt8 := [182, 0, 110, 158, 0, 9, 132, 5, 255, 167, 255, 215, 45, 21, 5, 42, 180, 0, 12, 21, 4]
abbrev dktX1_form_4 : List UInt8 := dkwX1_form_4 ++ dktX1_form_5
def dkwX1_form_3 : List UInt8 := [185, 0, 58, 2, 0, 192, 0, 21, 42, 180, 0, 12, 21, 4, 185, 0, 58, 2, 0, 192, 0, 21]
abbrev dktX1_form_3 : List UInt8 := dkwX1_form_3 ++ dktX1_form_4
def dkwX1_form_2 : List UInt8 := [155, 0, 90, 45, 185, 0, 38, 1, 0, 54, 5, 21, 5, 158, 0, 42, 45, 21, 5, 4, 100]
abbrev dktX1_form_2 : List UInt8 := dkwX1_form_2 ++ dktX1_form_3
def dkwX1_form_1 : List UInt8 := [187, 0, 188, 89, 183, 0, 190, 191, 42, 182, 0, 99, 78, 44, 3, 182, 0, 191, 54, 4, 21, 4]
abbrev dktX1_form_1 : List UInt8 := dkwX1_form_1 ++ dktX1_form_2
def dkwX1_form_0 : List UInt8 := [187, 0, 173, 89, 183, 0, 184, 77, 42, 43, 44, 182, 0, 180, 44, 182, 0, 185, 16, 32, 164, 0, 11]
abbrev dktX1_form_0 : List UInt8 := dkwX1_form_0 ++ dktX1_form_1
theorem dksX1_form_0 : cX1_form.data.toList.drop 0 = dktX1_form_0 := by decide +kernel
theorem dksX1_form_1 : cX1_form.data.toList.drop 23 = dktX1_form_1 := dk_seg dksX1_form_0 23 rfl rfl
theorem dksX1_form_2 : cX1_form.data.toList.drop 45 = dktX1_form_2 := dk_seg dksX1_form_1 22 rfl rfl
theorem dksX1_form_3 : cX1_form.data.toList.drop 66 = dktX1_form_3 := dk_seg dksX1_form_2 21 rfl rfl
theorem dksX1_form_4 : cX1_form.data.toList.drop 88 = dktX1_form_4 := dk_seg dksX1_form_3 22 rfl rfl
theorem dksX1_form_5 : cX1_form.data.toList.drop 109 = dktX1_form_5 := dk_seg dksX1_form_4 21 rfl rfl
theorem dksX1_form_6 : cX1_form.data.toList.drop 132 = dktX1_form_6 := dk_seg dksX1_form_5 23 rfl rfl
theorem dksX1_form_7 : cX1_form.data.toList.drop 155 = dktX1_form_7 := dk_seg dksX1_form_6 23 rfl rfl
theorem dksX1_form_8 : cX1_form.data.toList.drop 179 = dktX1_form_8 := dk_seg dksX1_form_7 24 rfl rfl
theorem dksX1_form_9 : cX1_form.data.toList.drop 200 = dktX1_form_9 := dk_seg dksX1_form_8 21 rfl rfl
theorem dksX1_form_10 : cX1_form.data.toList.drop 223 = dktX1_form_10 := dk_seg dksX1_form_9 23 rfl rfl
theorem dX1_form_0 : decode cX1_form 0 = .ok (.new 173, 3) := dk_187 0 173 (dk_at dksX1_form_0 0 rfl rfl)
theorem dX1_form_3 : decode cX1_form 3 = .ok (.dup, 1) := dk_89 (dk_at dksX1_form_0 3 rfl rfl)
theorem dX1_form_4 : decode cX1_form 4 = .ok (.invokespecial 184, 3) := dk_183 0 184 (dk_at dksX1_form_0 4 rfl rfl)
theorem dX1_form_7 : decode cX1_form 7 = .ok (.astore_n 2, 1) := dk_77 (dk_at dksX1_form_0 7 rfl rfl)
theorem dX1_form_8 : decode cX1_form 8 = .ok (.aload_n 0, 1) := dk_42 (dk_at dksX1_form_0 8 rfl rfl)
theorem dX1_form_9 : decode cX1_form 9 = .ok (.aload_n 1, 1) := dk_43 (dk_at dksX1_form_0 9 rfl rfl)
theorem dX1_form_10 : decode cX1_form 10 = .ok (.aload_n 2, 1) := dk_44 (dk_at dksX1_form_0 10 rfl rfl)
theorem dX1_form_11 : decode cX1_form 11 = .ok (.invokevirtual 180, 3) := dk_182 0 180 (dk_at dksX1_form_0 11 rfl rfl)
theorem dX1_form_14 : decode cX1_form 14 = .ok (.aload_n 2, 1) := dk_44 (dk_at dksX1_form_0 14 rfl rfl)
theorem dX1_form_15 : decode cX1_form 15 = .ok (.invokevirtual 185, 3) := dk_182 0 185 (dk_at dksX1_form_0 15 rfl rfl)
theorem dX1_form_18 : decode cX1_form 18 = .ok (.bipush 32, 2) := dk_16 32 (dk_at dksX1_form_0 18 rfl rfl)
theorem dX1_form_20 : decode cX1_form 20 = .ok (.if_icmp .le 11, 3) := dk_164 0 11 (dk_at dksX1_form_0 20 rfl rfl)
theorem dX1_form_23 : decode cX1_form 23 = .ok (.new 188, 3) := dk_187 0 188 (dk_at dksX1_form_1 0 rfl rfl)
theorem dX1_form_26 : decode cX1_form 26 = .ok (.dup, 1) := dk_89 (dk_at dksX1_form_1 3 rfl rfl)
theorem dX1_form_27 : decode cX1_form 27 = .ok (.invokespecial 190, 3) := dk_183 0 190 (dk_at dksX1_form_1 4 rfl rfl)
theorem dX1_form_30 : decode cX1_form 30 = .ok (.athrow, 1) := dk_191 (dk_at dksX1_form_1 7 rfl rfl)
theorem dX1_form_31 : decode cX1_form 31 = .ok (.aload_n 0, 1) := dk_42 (dk_at dksX1_form_1 8 rfl rfl)
theorem dX1_form_32 : decode cX1_form 32 = .ok (.invokevirtual 99, 3) := dk_182 0 99 (dk_at dksX1_form_1 9 rfl rfl)
theorem dX1_form_35 : decode cX1_form 35 = .ok (.astore_n 3, 1) := dk_78 (dk_at dksX1_form_1 12 rfl rfl)
theorem dX1_form_36 : decode cX1_form 36 = .ok (.aload_n 2, 1) := dk_44 (dk_at dksX1_form_1 13 rfl rfl)
theorem dX1_form_37 : decode cX1_form 37 = .ok (.iconst 0, 1) := dk_3 (dk_at dksX1_form_1 14 rfl rfl)
theorem dX1_form_38 : decode cX1_form 38 = .ok (.invokevirtual 191, 3) := dk_182 0 191 (dk_at dksX1_form_1 15 rfl rfl)
theorem dX1_form_41 : decode cX1_form 41 = .ok (.istore 4, 2) := dk_54 4 (dk_at dksX1_form_1 18 rfl rfl)
theorem dX1_form_43 : decode cX1_form 43 = .ok (.iload 4, 2) := dk_21 4 (dk_at dksX1_form_1 20 rfl rfl)
theorem dX1_form_45 : decode cX1_form 45 = .ok (.ifCond .lt 90, 3) := dk_155 0 90 (dk_at dksX1_form_2 0 rfl rfl)
theorem dX1_form_48 : decode cX1_form 48 = .ok (.aload_n 3, 1) := dk_45 (dk_at dksX1_form_2 3 rfl rfl)
theorem dX1_form_49 : decode cX1_form 49 = .ok (.invokeinterface 38 1, 5) := by decide +kernel
theorem dX1_form_54 : decode cX1_form 54 = .ok (.istore 5, 2) := dk_54 5 (dk_at dksX1_form_2 9 rfl rfl)
theorem dX1_form_56 : decode cX1_form 56 = .ok (.iload 5, 2) := dk_21 5 (dk_at dksX1_form_2 11 rfl rfl)
theorem dX1_form_58 : decode cX1_form 58 = .ok (.ifCond .le 42, 3) := dk_158 0 42 (dk_at dksX1_form_2 13 rfl rfl)
theorem dX1_form_61 : decode cX1_form 61 = .ok (.aload_n 3, 1) := dk_45 (dk_at dksX1_form_2 16 rfl rfl)
theorem dX1_form_62 : decode cX1_form 62 = .ok (.iload 5, 2) := dk_21 5 (dk_at dksX1_form_2 17 rfl rfl)
theorem dX1_form_64 : decode cX1_form 64 = .ok (.iconst 1, 1) := dk_4 (dk_at dksX1_form_2 19 rfl rfl)
theorem dX1_form_65 : decode cX1_form 65 = .ok (.isub, 1) := dk_100 (dk_at dksX1_form_2 20 rfl rfl)
theorem dX1_form_66 : decode cX1_form 66 = .ok (.invokeinterface 58 2, 5) := by decide +kernel
theorem dX1_form_71 : decode cX1_form 71 = .ok (.checkcast 21, 3) := dk_192 0 21 (dk_at dksX1_form_3 5 rfl rfl)
theorem dX1_form_74 : decode cX1_form 74 = .ok (.aload_n 0, 1) := dk_42 (dk_at dksX1_form_3 8 rfl rfl)
theorem dX1_form_75 : decode cX1_form 75 = .ok (.getfield 12, 3) := dk_180 0 12 (dk_at dksX1_form_3 9 rfl rfl)
theorem dX1_form_78 : decode cX1_form 78 = .ok (.iload 4, 2) := dk_21 4 (dk_at dksX1_form_3 12 rfl rfl)
theorem dX1_form_80 : decode cX1_form 80 = .ok (.invokeinterface 58 2, 5) := by decide +kernel
theorem dX1_form_85 : decode cX1_form 85 = .ok (.checkcast 21, 3) := dk_192 0 21 (dk_at dksX1_form_3 19 rfl rfl)
theorem dX1_form_88 : decode cX1_form 88 = .ok (.invokevirtual 110, 3) := dk_182 0 110 (dk_at dksX1_form_4 0 rfl rfl)
theorem dX1_form_91 : decode cX1_form 91 = .ok (.ifCond .le 9, 3) := dk_158 0 9 (dk_at dksX1_form_4 3 rfl rfl)
theorem dX1_form_94 : decode cX1_form 94 = .ok (.iinc 5 (-1), 3) := dk_132 5 255 (dk_at dksX1_form_4 6 rfl rfl)
theorem dX1_form_97 : decode cX1_form 97 = .ok (.goto (-41), 3) := dk_167 255 215 (dk_at dksX1_form_4 9 rfl rfl)
theorem dX1_form_100 : decode cX1_form 100 = .ok (.aload_n 3, 1) := dk_45 (dk_at dksX1_form_4 12 rfl rfl)
theorem dX1_form_101 : decode cX1_form 101 = .ok (.iload 5, 2) := dk_21 5 (dk_at dksX1_form_4 13 rfl rfl)
theorem dX1_form_103 : decode cX1_form 103 = .ok (.aload_n 0, 1) := dk_42 (dk_at dksX1_form_4 15 rfl rfl)
theorem dX1_form_104 : decode cX1_form 104 = .ok (.getfield 12, 3) := dk_180 0 12 (dk_at dksX1_form_4 16 rfl rfl)
theorem dX1_form_107 : decode cX1_form 107 = .ok (.iload 4, 2) := dk_21 4 (dk_at dksX1_form_4 19 rfl rfl)
theorem dX1_form_109 : decode cX1_form 109 = .ok (.invokeinterface 58 2, 5) := by decide +kernel
theorem dX1_form_114 : decode cX1_form 114 = .ok (.checkcast 21, 3) := dk_192 0 21 (dk_at dksX1_form_5 5 rfl rfl)
theorem dX1_form_117 : decode cX1_form 117 = .ok (.invokeinterface 114 3, 5) := by decide +kernel
theorem dX1_form_122 : decode cX1_form 122 = .ok (.aload_n 2, 1) := dk_44 (dk_at dksX1_form_5 13 rfl rfl)
theorem dX1_form_123 : decode cX1_form 123 = .ok (.iload 4, 2) := dk_21 4 (dk_at dksX1_form_5 14 rfl rfl)
theorem dX1_form_125 : decode cX1_form 125 = .ok (.iconst 1, 1) := dk_4 (dk_at dksX1_form_5 16 rfl rfl)
theorem dX1_form_126 : decode cX1_form 126 = .ok (.iadd, 1) := dk_96 (dk_at dksX1_form_5 17 rfl rfl)
theorem dX1_form_127 : decode cX1_form 127 = .ok (.invokevirtual 191, 3) := dk_182 0 191 (dk_at dksX1_form_5 18 rfl rfl)
theorem dX1_form_130 : decode cX1_form 130 = .ok (.istore 4, 2) := dk_54 4 (dk_at dksX1_form_5 21 rfl rfl)
theorem dX1_form_132 : decode cX1_form 132 = .ok (.goto (-89), 3) := dk_167 255 167 (dk_at dksX1_form_6 0 rfl rfl)
theorem dX1_form_135 : decode cX1_form 135 = .ok (.new 153, 3) := dk_187 0 153 (dk_at dksX1_form_6 3 rfl rfl)
theorem dX1_form_138 : decode cX1_form 138 = .ok (.dup, 1) := dk_89 (dk_at dksX1_form_6 6 rfl rfl)
theorem dX1_form_139 : decode cX1_form 139 = .ok (.aload_n 3, 1) := dk_45 (dk_at dksX1_form_6 7 rfl rfl)
theorem dX1_form_140 : decode cX1_form 140 = .ok (.invokeinterface 38 1, 5) := by decide +kernel
theorem dX1_form_145 : decode cX1_form 145 = .ok (.invokespecial 194, 3) := dk_183 0 194 (dk_at dksX1_form_6 13 rfl rfl)
theorem dX1_form_148 : decode cX1_form 148 = .ok (.astore 4, 2) := dk_58 4 (dk_at dksX1_form_6 16 rfl rfl)
theorem dX1_form_150 : decode cX1_form 150 = .ok (.iconst 0, 1) := dk_3 (dk_at dksX1_form_6 18 rfl rfl)
theorem dX1_form_151 : decode cX1_form 151 = .ok (.istore 5, 2) := dk_54 5 (dk_at dksX1_form_6 19 rfl rfl)
theorem dX1_form_153 : decode cX1_form 153 = .ok (.iload 5, 2) := dk_21 5 (dk_at dksX1_form_6 21 rfl rfl)
theorem dX1_form_155 : decode cX1_form 155 = .ok (.aload 4, 2) := dk_25 4 (dk_at dksX1_form_7 0 rfl rfl)
theorem dX1_form_157 : decode cX1_form 157 = .ok (.getfield 152, 3) := dk_180 0 152 (dk_at dksX1_form_7 2 rfl rfl)
theorem dX1_form_160 : decode cX1_form 160 = .ok (.if_icmp .ge 61, 3) := dk_162 0 61 (dk_at dksX1_form_7 5 rfl rfl)
theorem dX1_form_163 : decode cX1_form 163 = .ok (.aload 4, 2) := dk_25 4 (dk_at dksX1_form_7 8 rfl rfl)
theorem dX1_form_165 : decode cX1_form 165 = .ok (.getfield 157, 3) := dk_180 0 157 (dk_at dksX1_form_7 10 rfl rfl)
theorem dX1_form_168 : decode cX1_form 168 = .ok (.iload 5, 2) := dk_21 5 (dk_at dksX1_form_7 13 rfl rfl)
theorem dX1_form_170 : decode cX1_form 170 = .ok (.aload_n 3, 1) := dk_45 (dk_at dksX1_form_7 15 rfl rfl)
theorem dX1_form_171 : decode cX1_form 171 = .ok (.aload_n 3, 1) := dk_45 (dk_at dksX1_form_7 16 rfl rfl)
theorem dX1_form_172 : decode cX1_form 172 = .ok (.iload 5, 2) := dk_21 5 (dk_at dksX1_form_7 17 rfl rfl)
theorem dX1_form_174 : decode cX1_form 174 = .ok (.invokeinterface 58 2, 5) := by decide +kernel
theorem dX1_form_179 : decode cX1_form 179 = .ok (.checkcast 21, 3) := dk_192 0 21 (dk_at dksX1_form_8 0 rfl rfl)
theorem dX1_form_182 : decode cX1_form 182 = .ok (.getfield 55, 3) := dk_180 0 55 (dk_at dksX1_form_8 3 rfl rfl)
theorem dX1_form_185 : decode cX1_form 185 = .ok (.invokestatic 195, 3) := dk_184 0 195 (dk_at dksX1_form_8 6 rfl rfl)
theorem dX1_form_188 : decode cX1_form 188 = .ok (.iastore, 1) := dk_79 (dk_at dksX1_form_8 9 rfl rfl)
theorem dX1_form_189 : decode cX1_form 189 = .ok (.aload 4, 2) := dk_25 4 (dk_at dksX1_form_8 10 rfl rfl)
theorem dX1_form_191 : decode cX1_form 191 = .ok (.getfield 165, 3) := dk_180 0 165 (dk_at dksX1_form_8 12 rfl rfl)
theorem dX1_form_194 : decode cX1_form 194 = .ok (.iload 5, 2) := dk_21 5 (dk_at dksX1_form_8 15 rfl rfl)
theorem dX1_form_196 : decode cX1_form 196 = .ok (.aload_n 3, 1) := dk_45 (dk_at dksX1_form_8 17 rfl rfl)
theorem dX1_form_197 : decode cX1_form 197 = .ok (.aload_n 3, 1) := dk_45 (dk_at dksX1_form_8 18 rfl rfl)
theorem dX1_form_198 : decode cX1_form 198 = .ok (.iload 5, 2) := dk_21 5 (dk_at dksX1_form_8 19 rfl rfl)
theorem dX1_form_200 : decode cX1_form 200 = .ok (.invokeinterface 58 2, 5) := by decide +kernel
theorem dX1_form_205 : decode cX1_form 205 = .ok (.checkcast 21, 3) := dk_192 0 21 (dk_at dksX1_form_9 5 rfl rfl)
theorem dX1_form_208 : decode cX1_form 208 = .ok (.getfield 65, 3) := dk_180 0 65 (dk_at dksX1_form_9 8 rfl rfl)
theorem dX1_form_211 : decode cX1_form 211 = .ok (.invokestatic 195, 3) := dk_184 0 195 (dk_at dksX1_form_9 11 rfl rfl)
theorem dX1_form_214 : decode cX1_form 214 = .ok (.iastore, 1) := dk_79 (dk_at dksX1_form_9 14 rfl rfl)
theorem dX1_form_215 : decode cX1_form 215 = .ok (.iinc 5 1, 3) := dk_132 5 1 (dk_at dksX1_form_9 15 rfl rfl)
theorem dX1_form_218 : decode cX1_form 218 = .ok (.goto (-65), 3) := dk_167 255 191 (dk_at dksX1_form_9 18 rfl rfl)
theorem dX1_form_221 : decode cX1_form 221 = .ok (.aload_n 0, 1) := dk_42 (dk_at dksX1_form_9 21 rfl rfl)
theorem dX1_form_222 : decode cX1_form 222 = .ok (.aload_n 3, 1) := dk_45 (dk_at dksX1_form_9 22 rfl rfl)
theorem dX1_form_223 : decode cX1_form 223 = .ok (.invokevirtual 132, 3) := dk_182 0 132 (dk_at dksX1_form_10 0 rfl rfl)
theorem dX1_form_226 : decode cX1_form 226 = .ok (.aload 4, 2) := dk_25 4 (dk_at dksX1_form_10 3 rfl rfl)
theorem dX1_form_228 : decode cX1_form 228 = .ok (.areturn, 1) := dk_176 (dk_at dksX1_form_10 5 rfl rfl)
abbrev cX1_reach : ByteArray := prog_2_method_20_code
def yX1_reach : MethodName := ⟨RX1, "reach", "(LGameCalculator$Game;Ljava/util/BitSet;)V"⟩
def dkwX1_reach_3 : List UInt8 := [167, 255, 224, 132, 3, 1, 167, 255, 203, 177]
abbrev dktX1_reach_3 : List UInt8 := dkwX1_reach_3 ++ []
def dkwX1_reach_2 : List UInt8 := [162, 0, 26, 42, 25, 4, 21, 5, 185, 0, 58, 2, 0, 192, 0, 21, 44, 182, 0, 180, 132, 5, 1]
abbrev dktX1_reach_2 : List UInt8 := dkwX1_reach_2 ++ dktX1_reach_3
def dkwX1_reach_1 : List UInt8 := [163, 0, 54, 43, 29, 182, 0, 91, 58, 4, 3, 54, 5, 21, 5, 25, 4, 185, 0, 38, 1, 0]
abbrev dktX1_reach_1 : List UInt8 := dkwX1_reach_1 ++ dktX1_reach_2
def dkwX1_reach_0 : List UInt8 := [44, 43, 180, 0, 47, 182, 0, 172, 154, 0, 69, 44, 43, 180, 0, 47, 182, 0, 177, 3, 62, 29, 4]
abbrev dktX1_reach_0 : List UInt8 := dkwX1_reach_0 ++ dktX1_reach_1
theorem dksX1_reach_0 : cX1_reach.data.toList.drop 0 = dktX1_reach_0 := by decide +kernel
theorem dksX1_reach_1 : cX1_reach.data.toList.drop 23 = dktX1_reach_1 := dk_seg dksX1_reach_0 23 rfl rfl
theorem dksX1_reach_2 : cX1_reach.data.toList.drop 45 = dktX1_reach_2 := dk_seg dksX1_reach_1 22 rfl rfl
theorem dksX1_reach_3 : cX1_reach.data.toList.drop 68 = dktX1_reach_3 := dk_seg dksX1_reach_2 23 rfl rfl
theorem dX1_reach_0 : decode cX1_reach 0 = .ok (.aload_n 2, 1) := dk_44 (dk_at dksX1_reach_0 0 rfl rfl)
theorem dX1_reach_1 : decode cX1_reach 1 = .ok (.aload_n 1, 1) := dk_43 (dk_at dksX1_reach_0 1 rfl rfl)
theorem dX1_reach_2 : decode cX1_reach 2 = .ok (.getfield 47, 3) := dk_180 0 47 (dk_at dksX1_reach_0 2 rfl rfl)
theorem dX1_reach_5 : decode cX1_reach 5 = .ok (.invokevirtual 172, 3) := dk_182 0 172 (dk_at dksX1_reach_0 5 rfl rfl)
theorem dX1_reach_8 : decode cX1_reach 8 = .ok (.ifCond .ne 69, 3) := dk_154 0 69 (dk_at dksX1_reach_0 8 rfl rfl)
theorem dX1_reach_11 : decode cX1_reach 11 = .ok (.aload_n 2, 1) := dk_44 (dk_at dksX1_reach_0 11 rfl rfl)
theorem dX1_reach_12 : decode cX1_reach 12 = .ok (.aload_n 1, 1) := dk_43 (dk_at dksX1_reach_0 12 rfl rfl)
theorem dX1_reach_13 : decode cX1_reach 13 = .ok (.getfield 47, 3) := dk_180 0 47 (dk_at dksX1_reach_0 13 rfl rfl)
theorem dX1_reach_16 : decode cX1_reach 16 = .ok (.invokevirtual 177, 3) := dk_182 0 177 (dk_at dksX1_reach_0 16 rfl rfl)
theorem dX1_reach_19 : decode cX1_reach 19 = .ok (.iconst 0, 1) := dk_3 (dk_at dksX1_reach_0 19 rfl rfl)
theorem dX1_reach_20 : decode cX1_reach 20 = .ok (.istore_n 3, 1) := dk_62 (dk_at dksX1_reach_0 20 rfl rfl)
theorem dX1_reach_21 : decode cX1_reach 21 = .ok (.iload_n 3, 1) := dk_29 (dk_at dksX1_reach_0 21 rfl rfl)
theorem dX1_reach_22 : decode cX1_reach 22 = .ok (.iconst 1, 1) := dk_4 (dk_at dksX1_reach_0 22 rfl rfl)
theorem dX1_reach_23 : decode cX1_reach 23 = .ok (.if_icmp .gt 54, 3) := dk_163 0 54 (dk_at dksX1_reach_1 0 rfl rfl)
theorem dX1_reach_26 : decode cX1_reach 26 = .ok (.aload_n 1, 1) := dk_43 (dk_at dksX1_reach_1 3 rfl rfl)
theorem dX1_reach_27 : decode cX1_reach 27 = .ok (.iload_n 3, 1) := dk_29 (dk_at dksX1_reach_1 4 rfl rfl)
theorem dX1_reach_28 : decode cX1_reach 28 = .ok (.invokevirtual 91, 3) := dk_182 0 91 (dk_at dksX1_reach_1 5 rfl rfl)
theorem dX1_reach_31 : decode cX1_reach 31 = .ok (.astore 4, 2) := dk_58 4 (dk_at dksX1_reach_1 8 rfl rfl)
theorem dX1_reach_33 : decode cX1_reach 33 = .ok (.iconst 0, 1) := dk_3 (dk_at dksX1_reach_1 10 rfl rfl)
theorem dX1_reach_34 : decode cX1_reach 34 = .ok (.istore 5, 2) := dk_54 5 (dk_at dksX1_reach_1 11 rfl rfl)
theorem dX1_reach_36 : decode cX1_reach 36 = .ok (.iload 5, 2) := dk_21 5 (dk_at dksX1_reach_1 13 rfl rfl)
theorem dX1_reach_38 : decode cX1_reach 38 = .ok (.aload 4, 2) := dk_25 4 (dk_at dksX1_reach_1 15 rfl rfl)
theorem dX1_reach_40 : decode cX1_reach 40 = .ok (.invokeinterface 38 1, 5) := by decide +kernel
theorem dX1_reach_45 : decode cX1_reach 45 = .ok (.if_icmp .ge 26, 3) := dk_162 0 26 (dk_at dksX1_reach_2 0 rfl rfl)
theorem dX1_reach_48 : decode cX1_reach 48 = .ok (.aload_n 0, 1) := dk_42 (dk_at dksX1_reach_2 3 rfl rfl)
theorem dX1_reach_49 : decode cX1_reach 49 = .ok (.aload 4, 2) := dk_25 4 (dk_at dksX1_reach_2 4 rfl rfl)
theorem dX1_reach_51 : decode cX1_reach 51 = .ok (.iload 5, 2) := dk_21 5 (dk_at dksX1_reach_2 6 rfl rfl)
theorem dX1_reach_53 : decode cX1_reach 53 = .ok (.invokeinterface 58 2, 5) := by decide +kernel
theorem dX1_reach_58 : decode cX1_reach 58 = .ok (.checkcast 21, 3) := dk_192 0 21 (dk_at dksX1_reach_2 13 rfl rfl)
theorem dX1_reach_61 : decode cX1_reach 61 = .ok (.aload_n 2, 1) := dk_44 (dk_at dksX1_reach_2 16 rfl rfl)
theorem dX1_reach_62 : decode cX1_reach 62 = .ok (.invokevirtual 180, 3) := dk_182 0 180 (dk_at dksX1_reach_2 17 rfl rfl)
theorem dX1_reach_65 : decode cX1_reach 65 = .ok (.iinc 5 1, 3) := dk_132 5 1 (dk_at dksX1_reach_2 20 rfl rfl)
theorem dX1_reach_68 : decode cX1_reach 68 = .ok (.goto (-32), 3) := dk_167 255 224 (dk_at dksX1_reach_3 0 rfl rfl)
theorem dX1_reach_71 : decode cX1_reach 71 = .ok (.iinc 3 1, 3) := dk_132 3 1 (dk_at dksX1_reach_3 3 rfl rfl)
theorem dX1_reach_74 : decode cX1_reach 74 = .ok (.goto (-53), 3) := dk_167 255 203 (dk_at dksX1_reach_3 6 rfl rfl)
theorem dX1_reach_77 : decode cX1_reach 77 = .ok (.return_, 1) := dk_177 (dk_at dksX1_reach_3 9 rfl rfl)
abbrev cX1_setOf : ByteArray := prog_2_method_22_code
def yX1_setOf : MethodName := ⟨RX1, "setOf", "(Ljava/util/List;Ljava/util/List;)I"⟩
def dkwX1_setOf_3 : List UInt8 := [28, 172]
abbrev dktX1_setOf_3 : List UInt8 := dkwX1_setOf_3 ++ []
def dkwX1_setOf_2 : List UInt8 := [166, 0, 9, 4, 29, 120, 167, 0, 4, 3, 128, 61, 132, 4, 1, 167, 255, 214, 132, 3, 1, 167, 255, 195]
abbrev dktX1_setOf_2 : List UInt8 := dkwX1_setOf_2 ++ dktX1_setOf_3
def dkwX1_setOf_1 : List UInt8 := [185, 0, 38, 1, 0, 162, 0, 37, 28, 42, 29, 185, 0, 58, 2, 0, 43, 21, 4, 185, 0, 58, 2, 0]
abbrev dktX1_setOf_1 : List UInt8 := dkwX1_setOf_1 ++ dktX1_setOf_2
def dkwX1_setOf_0 : List UInt8 := [3, 61, 3, 62, 29, 42, 185, 0, 38, 1, 0, 162, 0, 57, 3, 54, 4, 21, 4, 43]
abbrev dktX1_setOf_0 : List UInt8 := dkwX1_setOf_0 ++ dktX1_setOf_1
theorem dksX1_setOf_0 : cX1_setOf.data.toList.drop 0 = dktX1_setOf_0 := by decide +kernel
theorem dksX1_setOf_1 : cX1_setOf.data.toList.drop 20 = dktX1_setOf_1 := dk_seg dksX1_setOf_0 20 rfl rfl
theorem dksX1_setOf_2 : cX1_setOf.data.toList.drop 44 = dktX1_setOf_2 := dk_seg dksX1_setOf_1 24 rfl rfl
theorem dksX1_setOf_3 : cX1_setOf.data.toList.drop 68 = dktX1_setOf_3 := dk_seg dksX1_setOf_2 24 rfl rfl
theorem dX1_setOf_0 : decode cX1_setOf 0 = .ok (.iconst 0, 1) := dk_3 (dk_at dksX1_setOf_0 0 rfl rfl)
theorem dX1_setOf_1 : decode cX1_setOf 1 = .ok (.istore_n 2, 1) := dk_61 (dk_at dksX1_setOf_0 1 rfl rfl)
theorem dX1_setOf_2 : decode cX1_setOf 2 = .ok (.iconst 0, 1) := dk_3 (dk_at dksX1_setOf_0 2 rfl rfl)
theorem dX1_setOf_3 : decode cX1_setOf 3 = .ok (.istore_n 3, 1) := dk_62 (dk_at dksX1_setOf_0 3 rfl rfl)
theorem dX1_setOf_4 : decode cX1_setOf 4 = .ok (.iload_n 3, 1) := dk_29 (dk_at dksX1_setOf_0 4 rfl rfl)
theorem dX1_setOf_5 : decode cX1_setOf 5 = .ok (.aload_n 0, 1) := dk_42 (dk_at dksX1_setOf_0 5 rfl rfl)
theorem dX1_setOf_6 : decode cX1_setOf 6 = .ok (.invokeinterface 38 1, 5) := by decide +kernel
theorem dX1_setOf_11 : decode cX1_setOf 11 = .ok (.if_icmp .ge 57, 3) := dk_162 0 57 (dk_at dksX1_setOf_0 11 rfl rfl)
theorem dX1_setOf_14 : decode cX1_setOf 14 = .ok (.iconst 0, 1) := dk_3 (dk_at dksX1_setOf_0 14 rfl rfl)
theorem dX1_setOf_15 : decode cX1_setOf 15 = .ok (.istore 4, 2) := dk_54 4 (dk_at dksX1_setOf_0 15 rfl rfl)
theorem dX1_setOf_17 : decode cX1_setOf 17 = .ok (.iload 4, 2) := dk_21 4 (dk_at dksX1_setOf_0 17 rfl rfl)
theorem dX1_setOf_19 : decode cX1_setOf 19 = .ok (.aload_n 1, 1) := dk_43 (dk_at dksX1_setOf_0 19 rfl rfl)
theorem dX1_setOf_20 : decode cX1_setOf 20 = .ok (.invokeinterface 38 1, 5) := by decide +kernel
theorem dX1_setOf_25 : decode cX1_setOf 25 = .ok (.if_icmp .ge 37, 3) := dk_162 0 37 (dk_at dksX1_setOf_1 5 rfl rfl)
theorem dX1_setOf_28 : decode cX1_setOf 28 = .ok (.iload_n 2, 1) := dk_28 (dk_at dksX1_setOf_1 8 rfl rfl)
theorem dX1_setOf_29 : decode cX1_setOf 29 = .ok (.aload_n 0, 1) := dk_42 (dk_at dksX1_setOf_1 9 rfl rfl)
theorem dX1_setOf_30 : decode cX1_setOf 30 = .ok (.iload_n 3, 1) := dk_29 (dk_at dksX1_setOf_1 10 rfl rfl)
theorem dX1_setOf_31 : decode cX1_setOf 31 = .ok (.invokeinterface 58 2, 5) := by decide +kernel
theorem dX1_setOf_36 : decode cX1_setOf 36 = .ok (.aload_n 1, 1) := dk_43 (dk_at dksX1_setOf_1 16 rfl rfl)
theorem dX1_setOf_37 : decode cX1_setOf 37 = .ok (.iload 4, 2) := dk_21 4 (dk_at dksX1_setOf_1 17 rfl rfl)
theorem dX1_setOf_39 : decode cX1_setOf 39 = .ok (.invokeinterface 58 2, 5) := by decide +kernel
theorem dX1_setOf_44 : decode cX1_setOf 44 = .ok (.if_acmp .ne 9, 3) := dk_166 0 9 (dk_at dksX1_setOf_2 0 rfl rfl)
theorem dX1_setOf_47 : decode cX1_setOf 47 = .ok (.iconst 1, 1) := dk_4 (dk_at dksX1_setOf_2 3 rfl rfl)
theorem dX1_setOf_48 : decode cX1_setOf 48 = .ok (.iload_n 3, 1) := dk_29 (dk_at dksX1_setOf_2 4 rfl rfl)
theorem dX1_setOf_49 : decode cX1_setOf 49 = .ok (.ishl, 1) := dk_120 (dk_at dksX1_setOf_2 5 rfl rfl)
theorem dX1_setOf_50 : decode cX1_setOf 50 = .ok (.goto 4, 3) := dk_167 0 4 (dk_at dksX1_setOf_2 6 rfl rfl)
theorem dX1_setOf_53 : decode cX1_setOf 53 = .ok (.iconst 0, 1) := dk_3 (dk_at dksX1_setOf_2 9 rfl rfl)
theorem dX1_setOf_54 : decode cX1_setOf 54 = .ok (.ior, 1) := dk_128 (dk_at dksX1_setOf_2 10 rfl rfl)
theorem dX1_setOf_55 : decode cX1_setOf 55 = .ok (.istore_n 2, 1) := dk_61 (dk_at dksX1_setOf_2 11 rfl rfl)
theorem dX1_setOf_56 : decode cX1_setOf 56 = .ok (.iinc 4 1, 3) := dk_132 4 1 (dk_at dksX1_setOf_2 12 rfl rfl)
theorem dX1_setOf_59 : decode cX1_setOf 59 = .ok (.goto (-42), 3) := dk_167 255 214 (dk_at dksX1_setOf_2 15 rfl rfl)
theorem dX1_setOf_62 : decode cX1_setOf 62 = .ok (.iinc 3 1, 3) := dk_132 3 1 (dk_at dksX1_setOf_2 18 rfl rfl)
theorem dX1_setOf_65 : decode cX1_setOf 65 = .ok (.goto (-61), 3) := dk_167 255 195 (dk_at dksX1_setOf_2 21 rfl rfl)
theorem dX1_setOf_68 : decode cX1_setOf 68 = .ok (.iload_n 2, 1) := dk_28 (dk_at dksX1_setOf_3 0 rfl rfl)
theorem dX1_setOf_69 : decode cX1_setOf 69 = .ok (.ireturn, 1) := dk_172 (dk_at dksX1_setOf_3 1 rfl rfl)
abbrev cX1_make : ByteArray := prog_2_method_15_code
def yX1_make : MethodName := ⟨RX1, "make", "(Ljava/util/List;Ljava/util/List;)LGameCalculator$Game;"⟩
def dkwX1_make_6 : List UInt8 := [42, 25, 7, 182, 0, 132, 25, 8, 176]
abbrev dktX1_make_6 : List UInt8 := dkwX1_make_6 ++ []
def dkwX1_make_5 : List UInt8 := [25, 7, 182, 0, 140, 58, 8, 42, 45, 182, 0, 132, 42, 25, 4, 182, 0, 132, 42, 25, 6, 182, 0, 132]
abbrev dktX1_make_5 : List UInt8 := dkwX1_make_5 ++ dktX1_make_6
def dkwX1_make_4 : List UInt8 := [167, 255, 172, 42, 3, 45, 182, 0, 136, 58, 6, 42, 4, 25, 4, 182, 0, 136, 58, 7, 42, 25, 6]
abbrev dktX1_make_4 : List UInt8 := dkwX1_make_4 ++ dktX1_make_5
def dkwX1_make_3 : List UInt8 := [43, 165, 0, 14, 42, 45, 182, 0, 132, 42, 25, 4, 182, 0, 132, 25, 7, 78, 25, 8, 58, 4]
abbrev dktX1_make_3 : List UInt8 := dkwX1_make_3 ++ dktX1_make_4
def dkwX1_make_2 : List UInt8 := [184, 0, 129, 153, 0, 13, 25, 8, 25, 4, 184, 0, 129, 154, 0, 7, 4, 167, 0, 4, 3, 54, 5, 45]
abbrev dktX1_make_2 : List UInt8 := dkwX1_make_2 ++ dktX1_make_3
def dkwX1_make_1 : List UInt8 := [45, 25, 6, 182, 0, 125, 58, 7, 42, 4, 25, 4, 25, 6, 182, 0, 125, 58, 8, 25, 7, 45]
abbrev dktX1_make_1 : List UInt8 := dkwX1_make_1 ++ dktX1_make_2
def dkwX1_make_0 : List UInt8 := [43, 78, 44, 58, 4, 4, 54, 5, 21, 5, 153, 0, 85, 42, 45, 25, 4, 182, 0, 121, 58, 6, 42, 3]
abbrev dktX1_make_0 : List UInt8 := dkwX1_make_0 ++ dktX1_make_1
theorem dksX1_make_0 : cX1_make.data.toList.drop 0 = dktX1_make_0 := by decide +kernel
theorem dksX1_make_1 : cX1_make.data.toList.drop 24 = dktX1_make_1 := dk_seg dksX1_make_0 24 rfl rfl
theorem dksX1_make_2 : cX1_make.data.toList.drop 46 = dktX1_make_2 := dk_seg dksX1_make_1 22 rfl rfl
theorem dksX1_make_3 : cX1_make.data.toList.drop 70 = dktX1_make_3 := dk_seg dksX1_make_2 24 rfl rfl
theorem dksX1_make_4 : cX1_make.data.toList.drop 92 = dktX1_make_4 := dk_seg dksX1_make_3 22 rfl rfl
theorem dksX1_make_5 : cX1_make.data.toList.drop 115 = dktX1_make_5 := dk_seg dksX1_make_4 23 rfl rfl
theorem dksX1_make_6 : cX1_make.data.toList.drop 139 = dktX1_make_6 := dk_seg dksX1_make_5 24 rfl rfl
theorem dX1_make_0 : decode cX1_make 0 = .ok (.aload_n 1, 1) := dk_43 (dk_at dksX1_make_0 0 rfl rfl)
theorem dX1_make_1 : decode cX1_make 1 = .ok (.astore_n 3, 1) := dk_78 (dk_at dksX1_make_0 1 rfl rfl)
theorem dX1_make_2 : decode cX1_make 2 = .ok (.aload_n 2, 1) := dk_44 (dk_at dksX1_make_0 2 rfl rfl)
theorem dX1_make_3 : decode cX1_make 3 = .ok (.astore 4, 2) := dk_58 4 (dk_at dksX1_make_0 3 rfl rfl)
theorem dX1_make_5 : decode cX1_make 5 = .ok (.iconst 1, 1) := dk_4 (dk_at dksX1_make_0 5 rfl rfl)
theorem dX1_make_6 : decode cX1_make 6 = .ok (.istore 5, 2) := dk_54 5 (dk_at dksX1_make_0 6 rfl rfl)
theorem dX1_make_8 : decode cX1_make 8 = .ok (.iload 5, 2) := dk_21 5 (dk_at dksX1_make_0 8 rfl rfl)
theorem dX1_make_10 : decode cX1_make 10 = .ok (.ifCond .eq 85, 3) := dk_153 0 85 (dk_at dksX1_make_0 10 rfl rfl)
theorem dX1_make_13 : decode cX1_make 13 = .ok (.aload_n 0, 1) := dk_42 (dk_at dksX1_make_0 13 rfl rfl)
theorem dX1_make_14 : decode cX1_make 14 = .ok (.aload_n 3, 1) := dk_45 (dk_at dksX1_make_0 14 rfl rfl)
theorem dX1_make_15 : decode cX1_make 15 = .ok (.aload 4, 2) := dk_25 4 (dk_at dksX1_make_0 15 rfl rfl)
theorem dX1_make_17 : decode cX1_make 17 = .ok (.invokevirtual 121, 3) := dk_182 0 121 (dk_at dksX1_make_0 17 rfl rfl)
theorem dX1_make_20 : decode cX1_make 20 = .ok (.astore 6, 2) := dk_58 6 (dk_at dksX1_make_0 20 rfl rfl)
theorem dX1_make_22 : decode cX1_make 22 = .ok (.aload_n 0, 1) := dk_42 (dk_at dksX1_make_0 22 rfl rfl)
theorem dX1_make_23 : decode cX1_make 23 = .ok (.iconst 0, 1) := dk_3 (dk_at dksX1_make_0 23 rfl rfl)
theorem dX1_make_24 : decode cX1_make 24 = .ok (.aload_n 3, 1) := dk_45 (dk_at dksX1_make_1 0 rfl rfl)
theorem dX1_make_25 : decode cX1_make 25 = .ok (.aload 6, 2) := dk_25 6 (dk_at dksX1_make_1 1 rfl rfl)
theorem dX1_make_27 : decode cX1_make 27 = .ok (.invokevirtual 125, 3) := dk_182 0 125 (dk_at dksX1_make_1 3 rfl rfl)
theorem dX1_make_30 : decode cX1_make 30 = .ok (.astore 7, 2) := dk_58 7 (dk_at dksX1_make_1 6 rfl rfl)
theorem dX1_make_32 : decode cX1_make 32 = .ok (.aload_n 0, 1) := dk_42 (dk_at dksX1_make_1 8 rfl rfl)
theorem dX1_make_33 : decode cX1_make 33 = .ok (.iconst 1, 1) := dk_4 (dk_at dksX1_make_1 9 rfl rfl)
theorem dX1_make_34 : decode cX1_make 34 = .ok (.aload 4, 2) := dk_25 4 (dk_at dksX1_make_1 10 rfl rfl)
theorem dX1_make_36 : decode cX1_make 36 = .ok (.aload 6, 2) := dk_25 6 (dk_at dksX1_make_1 12 rfl rfl)
theorem dX1_make_38 : decode cX1_make 38 = .ok (.invokevirtual 125, 3) := dk_182 0 125 (dk_at dksX1_make_1 14 rfl rfl)
theorem dX1_make_41 : decode cX1_make 41 = .ok (.astore 8, 2) := dk_58 8 (dk_at dksX1_make_1 17 rfl rfl)
theorem dX1_make_43 : decode cX1_make 43 = .ok (.aload 7, 2) := dk_25 7 (dk_at dksX1_make_1 19 rfl rfl)
theorem dX1_make_45 : decode cX1_make 45 = .ok (.aload_n 3, 1) := dk_45 (dk_at dksX1_make_1 21 rfl rfl)
theorem dX1_make_46 : decode cX1_make 46 = .ok (.invokestatic 129, 3) := dk_184 0 129 (dk_at dksX1_make_2 0 rfl rfl)
theorem dX1_make_49 : decode cX1_make 49 = .ok (.ifCond .eq 13, 3) := dk_153 0 13 (dk_at dksX1_make_2 3 rfl rfl)
theorem dX1_make_52 : decode cX1_make 52 = .ok (.aload 8, 2) := dk_25 8 (dk_at dksX1_make_2 6 rfl rfl)
theorem dX1_make_54 : decode cX1_make 54 = .ok (.aload 4, 2) := dk_25 4 (dk_at dksX1_make_2 8 rfl rfl)
theorem dX1_make_56 : decode cX1_make 56 = .ok (.invokestatic 129, 3) := dk_184 0 129 (dk_at dksX1_make_2 10 rfl rfl)
theorem dX1_make_59 : decode cX1_make 59 = .ok (.ifCond .ne 7, 3) := dk_154 0 7 (dk_at dksX1_make_2 13 rfl rfl)
theorem dX1_make_62 : decode cX1_make 62 = .ok (.iconst 1, 1) := dk_4 (dk_at dksX1_make_2 16 rfl rfl)
theorem dX1_make_63 : decode cX1_make 63 = .ok (.goto 4, 3) := dk_167 0 4 (dk_at dksX1_make_2 17 rfl rfl)
theorem dX1_make_66 : decode cX1_make 66 = .ok (.iconst 0, 1) := dk_3 (dk_at dksX1_make_2 20 rfl rfl)
theorem dX1_make_67 : decode cX1_make 67 = .ok (.istore 5, 2) := dk_54 5 (dk_at dksX1_make_2 21 rfl rfl)
theorem dX1_make_69 : decode cX1_make 69 = .ok (.aload_n 3, 1) := dk_45 (dk_at dksX1_make_2 23 rfl rfl)
theorem dX1_make_70 : decode cX1_make 70 = .ok (.aload_n 1, 1) := dk_43 (dk_at dksX1_make_3 0 rfl rfl)
theorem dX1_make_71 : decode cX1_make 71 = .ok (.if_acmp .eq 14, 3) := dk_165 0 14 (dk_at dksX1_make_3 1 rfl rfl)
theorem dX1_make_74 : decode cX1_make 74 = .ok (.aload_n 0, 1) := dk_42 (dk_at dksX1_make_3 4 rfl rfl)
theorem dX1_make_75 : decode cX1_make 75 = .ok (.aload_n 3, 1) := dk_45 (dk_at dksX1_make_3 5 rfl rfl)
theorem dX1_make_76 : decode cX1_make 76 = .ok (.invokevirtual 132, 3) := dk_182 0 132 (dk_at dksX1_make_3 6 rfl rfl)
theorem dX1_make_79 : decode cX1_make 79 = .ok (.aload_n 0, 1) := dk_42 (dk_at dksX1_make_3 9 rfl rfl)
theorem dX1_make_80 : decode cX1_make 80 = .ok (.aload 4, 2) := dk_25 4 (dk_at dksX1_make_3 10 rfl rfl)
theorem dX1_make_82 : decode cX1_make 82 = .ok (.invokevirtual 132, 3) := dk_182 0 132 (dk_at dksX1_make_3 12 rfl rfl)
theorem dX1_make_85 : decode cX1_make 85 = .ok (.aload 7, 2) := dk_25 7 (dk_at dksX1_make_3 15 rfl rfl)
theorem dX1_make_87 : decode cX1_make 87 = .ok (.astore_n 3, 1) := dk_78 (dk_at dksX1_make_3 17 rfl rfl)
theorem dX1_make_88 : decode cX1_make 88 = .ok (.aload 8, 2) := dk_25 8 (dk_at dksX1_make_3 18 rfl rfl)
theorem dX1_make_90 : decode cX1_make 90 = .ok (.astore 4, 2) := dk_58 4 (dk_at dksX1_make_3 20 rfl rfl)
theorem dX1_make_92 : decode cX1_make 92 = .ok (.goto (-84), 3) := dk_167 255 172 (dk_at dksX1_make_4 0 rfl rfl)
theorem dX1_make_95 : decode cX1_make 95 = .ok (.aload_n 0, 1) := dk_42 (dk_at dksX1_make_4 3 rfl rfl)
theorem dX1_make_96 : decode cX1_make 96 = .ok (.iconst 0, 1) := dk_3 (dk_at dksX1_make_4 4 rfl rfl)
theorem dX1_make_97 : decode cX1_make 97 = .ok (.aload_n 3, 1) := dk_45 (dk_at dksX1_make_4 5 rfl rfl)
theorem dX1_make_98 : decode cX1_make 98 = .ok (.invokevirtual 136, 3) := dk_182 0 136 (dk_at dksX1_make_4 6 rfl rfl)
theorem dX1_make_101 : decode cX1_make 101 = .ok (.astore 6, 2) := dk_58 6 (dk_at dksX1_make_4 9 rfl rfl)
theorem dX1_make_103 : decode cX1_make 103 = .ok (.aload_n 0, 1) := dk_42 (dk_at dksX1_make_4 11 rfl rfl)
theorem dX1_make_104 : decode cX1_make 104 = .ok (.iconst 1, 1) := dk_4 (dk_at dksX1_make_4 12 rfl rfl)
theorem dX1_make_105 : decode cX1_make 105 = .ok (.aload 4, 2) := dk_25 4 (dk_at dksX1_make_4 13 rfl rfl)
theorem dX1_make_107 : decode cX1_make 107 = .ok (.invokevirtual 136, 3) := dk_182 0 136 (dk_at dksX1_make_4 15 rfl rfl)
theorem dX1_make_110 : decode cX1_make 110 = .ok (.astore 7, 2) := dk_58 7 (dk_at dksX1_make_4 18 rfl rfl)
theorem dX1_make_112 : decode cX1_make 112 = .ok (.aload_n 0, 1) := dk_42 (dk_at dksX1_make_4 20 rfl rfl)
theorem dX1_make_113 : decode cX1_make 113 = .ok (.aload 6, 2) := dk_25 6 (dk_at dksX1_make_4 21 rfl rfl)
theorem dX1_make_115 : decode cX1_make 115 = .ok (.aload 7, 2) := dk_25 7 (dk_at dksX1_make_5 0 rfl rfl)
theorem dX1_make_117 : decode cX1_make 117 = .ok (.invokevirtual 140, 3) := dk_182 0 140 (dk_at dksX1_make_5 2 rfl rfl)
theorem dX1_make_120 : decode cX1_make 120 = .ok (.astore 8, 2) := dk_58 8 (dk_at dksX1_make_5 5 rfl rfl)
theorem dX1_make_122 : decode cX1_make 122 = .ok (.aload_n 0, 1) := dk_42 (dk_at dksX1_make_5 7 rfl rfl)
theorem dX1_make_123 : decode cX1_make 123 = .ok (.aload_n 3, 1) := dk_45 (dk_at dksX1_make_5 8 rfl rfl)
theorem dX1_make_124 : decode cX1_make 124 = .ok (.invokevirtual 132, 3) := dk_182 0 132 (dk_at dksX1_make_5 9 rfl rfl)
theorem dX1_make_127 : decode cX1_make 127 = .ok (.aload_n 0, 1) := dk_42 (dk_at dksX1_make_5 12 rfl rfl)
theorem dX1_make_128 : decode cX1_make 128 = .ok (.aload 4, 2) := dk_25 4 (dk_at dksX1_make_5 13 rfl rfl)
theorem dX1_make_130 : decode cX1_make 130 = .ok (.invokevirtual 132, 3) := dk_182 0 132 (dk_at dksX1_make_5 15 rfl rfl)
theorem dX1_make_133 : decode cX1_make 133 = .ok (.aload_n 0, 1) := dk_42 (dk_at dksX1_make_5 18 rfl rfl)
theorem dX1_make_134 : decode cX1_make 134 = .ok (.aload 6, 2) := dk_25 6 (dk_at dksX1_make_5 19 rfl rfl)
theorem dX1_make_136 : decode cX1_make 136 = .ok (.invokevirtual 132, 3) := dk_182 0 132 (dk_at dksX1_make_5 21 rfl rfl)
theorem dX1_make_139 : decode cX1_make 139 = .ok (.aload_n 0, 1) := dk_42 (dk_at dksX1_make_6 0 rfl rfl)
theorem dX1_make_140 : decode cX1_make 140 = .ok (.aload 7, 2) := dk_25 7 (dk_at dksX1_make_6 1 rfl rfl)
theorem dX1_make_142 : decode cX1_make 142 = .ok (.invokevirtual 132, 3) := dk_182 0 132 (dk_at dksX1_make_6 3 rfl rfl)
theorem dX1_make_145 : decode cX1_make 145 = .ok (.aload 8, 2) := dk_25 8 (dk_at dksX1_make_6 6 rfl rfl)
theorem dX1_make_147 : decode cX1_make 147 = .ok (.areturn, 1) := dk_176 (dk_at dksX1_make_6 8 rfl rfl)
abbrev cX1_candidate : ByteArray := prog_2_method_8_code
def yX1_candidate : MethodName := ⟨RX1, "candidate", "(Ljava/util/List;Ljava/util/List;)LGameCalculator$Game;"⟩
def dkwX1_candidate_2 : List UInt8 := [182, 0, 88, 42, 180, 0, 26, 176]
abbrev dktX1_candidate_2 : List UInt8 := dkwX1_candidate_2 ++ []
def dkwX1_candidate_1 : List UInt8 := [42, 180, 0, 34, 18, 87, 29, 96, 3, 84, 132, 3, 1, 167, 255, 221, 42, 180, 0, 26, 43, 44]
abbrev dktX1_candidate_1 : List UInt8 := dkwX1_candidate_1 ++ dktX1_candidate_2
def dkwX1_candidate_0 : List UInt8 := [3, 62, 29, 17, 2, 128, 162, 0, 34, 42, 180, 0, 34, 17, 2, 128, 29, 104, 17, 2, 127, 96, 3, 84]
abbrev dktX1_candidate_0 : List UInt8 := dkwX1_candidate_0 ++ dktX1_candidate_1
theorem dksX1_candidate_0 : cX1_candidate.data.toList.drop 0 = dktX1_candidate_0 := by decide +kernel
theorem dksX1_candidate_1 : cX1_candidate.data.toList.drop 24 = dktX1_candidate_1 := dk_seg dksX1_candidate_0 24 rfl rfl
theorem dksX1_candidate_2 : cX1_candidate.data.toList.drop 46 = dktX1_candidate_2 := dk_seg dksX1_candidate_1 22 rfl rfl
theorem dX1_candidate_0 : decode cX1_candidate 0 = .ok (.iconst 0, 1) := dk_3 (dk_at dksX1_candidate_0 0 rfl rfl)
theorem dX1_candidate_1 : decode cX1_candidate 1 = .ok (.istore_n 3, 1) := dk_62 (dk_at dksX1_candidate_0 1 rfl rfl)
theorem dX1_candidate_2 : decode cX1_candidate 2 = .ok (.iload_n 3, 1) := dk_29 (dk_at dksX1_candidate_0 2 rfl rfl)
theorem dX1_candidate_3 : decode cX1_candidate 3 = .ok (.sipush 640, 3) := dk_17 2 128 (dk_at dksX1_candidate_0 3 rfl rfl)
theorem dX1_candidate_6 : decode cX1_candidate 6 = .ok (.if_icmp .ge 34, 3) := dk_162 0 34 (dk_at dksX1_candidate_0 6 rfl rfl)
theorem dX1_candidate_9 : decode cX1_candidate 9 = .ok (.aload_n 0, 1) := dk_42 (dk_at dksX1_candidate_0 9 rfl rfl)
theorem dX1_candidate_10 : decode cX1_candidate 10 = .ok (.getfield 34, 3) := dk_180 0 34 (dk_at dksX1_candidate_0 10 rfl rfl)
theorem dX1_candidate_13 : decode cX1_candidate 13 = .ok (.sipush 640, 3) := dk_17 2 128 (dk_at dksX1_candidate_0 13 rfl rfl)
theorem dX1_candidate_16 : decode cX1_candidate 16 = .ok (.iload_n 3, 1) := dk_29 (dk_at dksX1_candidate_0 16 rfl rfl)
theorem dX1_candidate_17 : decode cX1_candidate 17 = .ok (.imul, 1) := dk_104 (dk_at dksX1_candidate_0 17 rfl rfl)
theorem dX1_candidate_18 : decode cX1_candidate 18 = .ok (.sipush 639, 3) := dk_17 2 127 (dk_at dksX1_candidate_0 18 rfl rfl)
theorem dX1_candidate_21 : decode cX1_candidate 21 = .ok (.iadd, 1) := dk_96 (dk_at dksX1_candidate_0 21 rfl rfl)
theorem dX1_candidate_22 : decode cX1_candidate 22 = .ok (.iconst 0, 1) := dk_3 (dk_at dksX1_candidate_0 22 rfl rfl)
theorem dX1_candidate_23 : decode cX1_candidate 23 = .ok (.bastore, 1) := dk_84 (dk_at dksX1_candidate_0 23 rfl rfl)
theorem dX1_candidate_24 : decode cX1_candidate 24 = .ok (.aload_n 0, 1) := dk_42 (dk_at dksX1_candidate_1 0 rfl rfl)
theorem dX1_candidate_25 : decode cX1_candidate 25 = .ok (.getfield 34, 3) := dk_180 0 34 (dk_at dksX1_candidate_1 1 rfl rfl)
theorem dX1_candidate_28 : decode cX1_candidate 28 = .ok (.ldc 87, 2) := dk_18 87 (dk_at dksX1_candidate_1 4 rfl rfl)
theorem dX1_candidate_30 : decode cX1_candidate 30 = .ok (.iload_n 3, 1) := dk_29 (dk_at dksX1_candidate_1 6 rfl rfl)
theorem dX1_candidate_31 : decode cX1_candidate 31 = .ok (.iadd, 1) := dk_96 (dk_at dksX1_candidate_1 7 rfl rfl)
theorem dX1_candidate_32 : decode cX1_candidate 32 = .ok (.iconst 0, 1) := dk_3 (dk_at dksX1_candidate_1 8 rfl rfl)
theorem dX1_candidate_33 : decode cX1_candidate 33 = .ok (.bastore, 1) := dk_84 (dk_at dksX1_candidate_1 9 rfl rfl)
theorem dX1_candidate_34 : decode cX1_candidate 34 = .ok (.iinc 3 1, 3) := dk_132 3 1 (dk_at dksX1_candidate_1 10 rfl rfl)
theorem dX1_candidate_37 : decode cX1_candidate 37 = .ok (.goto (-35), 3) := dk_167 255 221 (dk_at dksX1_candidate_1 13 rfl rfl)
theorem dX1_candidate_40 : decode cX1_candidate 40 = .ok (.aload_n 0, 1) := dk_42 (dk_at dksX1_candidate_1 16 rfl rfl)
theorem dX1_candidate_41 : decode cX1_candidate 41 = .ok (.getfield 26, 3) := dk_180 0 26 (dk_at dksX1_candidate_1 17 rfl rfl)
theorem dX1_candidate_44 : decode cX1_candidate 44 = .ok (.aload_n 1, 1) := dk_43 (dk_at dksX1_candidate_1 20 rfl rfl)
theorem dX1_candidate_45 : decode cX1_candidate 45 = .ok (.aload_n 2, 1) := dk_44 (dk_at dksX1_candidate_1 21 rfl rfl)
theorem dX1_candidate_46 : decode cX1_candidate 46 = .ok (.invokevirtual 88, 3) := dk_182 0 88 (dk_at dksX1_candidate_2 0 rfl rfl)
theorem dX1_candidate_49 : decode cX1_candidate 49 = .ok (.aload_n 0, 1) := dk_42 (dk_at dksX1_candidate_2 3 rfl rfl)
theorem dX1_candidate_50 : decode cX1_candidate 50 = .ok (.getfield 26, 3) := dk_180 0 26 (dk_at dksX1_candidate_2 4 rfl rfl)
theorem dX1_candidate_53 : decode cX1_candidate 53 = .ok (.areturn, 1) := dk_176 (dk_at dksX1_candidate_2 7 rfl rfl)
abbrev cX1_bypass : ByteArray := prog_2_method_12_code
def yX1_bypass : MethodName := ⟨RX1, "bypass", "(ILjava/util/List;LGameCalculator$Game;)Ljava/util/List;"⟩
def dkwX1_bypass_5 : List UInt8 := [25, 4, 176]
abbrev dktX1_bypass_5 : List UInt8 := dkwX1_bypass_5 ++ []
def dkwX1_bypass_4 : List UInt8 := [185, 0, 58, 2, 0, 192, 0, 21, 184, 0, 107, 132, 8, 1, 167, 255, 224, 132, 5, 1, 167, 255, 153]
abbrev dktX1_bypass_4 : List UInt8 := dkwX1_bypass_4 ++ dktX1_bypass_5
def dkwX1_bypass_3 : List UInt8 := [3, 54, 8, 21, 8, 25, 7, 185, 0, 38, 1, 0, 162, 0, 26, 25, 4, 25, 7, 21, 8]
abbrev dktX1_bypass_3 : List UInt8 := dkwX1_bypass_3 ++ dktX1_bypass_4
def dkwX1_bypass_2 : List UInt8 := [21, 5, 185, 0, 58, 2, 0, 192, 0, 21, 184, 0, 107, 167, 0, 49, 25, 6, 27, 182, 0, 91, 58, 7]
abbrev dktX1_bypass_2 : List UInt8 := dkwX1_bypass_2 ++ dktX1_bypass_3
def dkwX1_bypass_1 : List UInt8 := [21, 5, 185, 0, 58, 2, 0, 192, 0, 21, 45, 182, 0, 103, 58, 6, 25, 6, 199, 0, 22, 25, 4, 44]
abbrev dktX1_bypass_1 : List UInt8 := dkwX1_bypass_1 ++ dktX1_bypass_2
def dkwX1_bypass_0 : List UInt8 := [42, 182, 0, 99, 58, 4, 3, 54, 5, 21, 5, 44, 185, 0, 38, 1, 0, 162, 0, 98, 42, 27, 44]
abbrev dktX1_bypass_0 : List UInt8 := dkwX1_bypass_0 ++ dktX1_bypass_1
theorem dksX1_bypass_0 : cX1_bypass.data.toList.drop 0 = dktX1_bypass_0 := by decide +kernel
theorem dksX1_bypass_1 : cX1_bypass.data.toList.drop 23 = dktX1_bypass_1 := dk_seg dksX1_bypass_0 23 rfl rfl
theorem dksX1_bypass_2 : cX1_bypass.data.toList.drop 47 = dktX1_bypass_2 := dk_seg dksX1_bypass_1 24 rfl rfl
theorem dksX1_bypass_3 : cX1_bypass.data.toList.drop 71 = dktX1_bypass_3 := dk_seg dksX1_bypass_2 24 rfl rfl
theorem dksX1_bypass_4 : cX1_bypass.data.toList.drop 92 = dktX1_bypass_4 := dk_seg dksX1_bypass_3 21 rfl rfl
theorem dksX1_bypass_5 : cX1_bypass.data.toList.drop 115 = dktX1_bypass_5 := dk_seg dksX1_bypass_4 23 rfl rfl
theorem dX1_bypass_0 : decode cX1_bypass 0 = .ok (.aload_n 0, 1) := dk_42 (dk_at dksX1_bypass_0 0 rfl rfl)
theorem dX1_bypass_1 : decode cX1_bypass 1 = .ok (.invokevirtual 99, 3) := dk_182 0 99 (dk_at dksX1_bypass_0 1 rfl rfl)
theorem dX1_bypass_4 : decode cX1_bypass 4 = .ok (.astore 4, 2) := dk_58 4 (dk_at dksX1_bypass_0 4 rfl rfl)
theorem dX1_bypass_6 : decode cX1_bypass 6 = .ok (.iconst 0, 1) := dk_3 (dk_at dksX1_bypass_0 6 rfl rfl)
theorem dX1_bypass_7 : decode cX1_bypass 7 = .ok (.istore 5, 2) := dk_54 5 (dk_at dksX1_bypass_0 7 rfl rfl)
theorem dX1_bypass_9 : decode cX1_bypass 9 = .ok (.iload 5, 2) := dk_21 5 (dk_at dksX1_bypass_0 9 rfl rfl)
theorem dX1_bypass_11 : decode cX1_bypass 11 = .ok (.aload_n 2, 1) := dk_44 (dk_at dksX1_bypass_0 11 rfl rfl)
theorem dX1_bypass_12 : decode cX1_bypass 12 = .ok (.invokeinterface 38 1, 5) := by decide +kernel
theorem dX1_bypass_17 : decode cX1_bypass 17 = .ok (.if_icmp .ge 98, 3) := dk_162 0 98 (dk_at dksX1_bypass_0 17 rfl rfl)
theorem dX1_bypass_20 : decode cX1_bypass 20 = .ok (.aload_n 0, 1) := dk_42 (dk_at dksX1_bypass_0 20 rfl rfl)
theorem dX1_bypass_21 : decode cX1_bypass 21 = .ok (.iload_n 1, 1) := dk_27 (dk_at dksX1_bypass_0 21 rfl rfl)
theorem dX1_bypass_22 : decode cX1_bypass 22 = .ok (.aload_n 2, 1) := dk_44 (dk_at dksX1_bypass_0 22 rfl rfl)
theorem dX1_bypass_23 : decode cX1_bypass 23 = .ok (.iload 5, 2) := dk_21 5 (dk_at dksX1_bypass_1 0 rfl rfl)
theorem dX1_bypass_25 : decode cX1_bypass 25 = .ok (.invokeinterface 58 2, 5) := by decide +kernel
theorem dX1_bypass_30 : decode cX1_bypass 30 = .ok (.checkcast 21, 3) := dk_192 0 21 (dk_at dksX1_bypass_1 7 rfl rfl)
theorem dX1_bypass_33 : decode cX1_bypass 33 = .ok (.aload_n 3, 1) := dk_45 (dk_at dksX1_bypass_1 10 rfl rfl)
theorem dX1_bypass_34 : decode cX1_bypass 34 = .ok (.invokevirtual 103, 3) := dk_182 0 103 (dk_at dksX1_bypass_1 11 rfl rfl)
theorem dX1_bypass_37 : decode cX1_bypass 37 = .ok (.astore 6, 2) := dk_58 6 (dk_at dksX1_bypass_1 14 rfl rfl)
theorem dX1_bypass_39 : decode cX1_bypass 39 = .ok (.aload 6, 2) := dk_25 6 (dk_at dksX1_bypass_1 16 rfl rfl)
theorem dX1_bypass_41 : decode cX1_bypass 41 = .ok (.ifnonnull 22, 3) := dk_199 0 22 (dk_at dksX1_bypass_1 18 rfl rfl)
theorem dX1_bypass_44 : decode cX1_bypass 44 = .ok (.aload 4, 2) := dk_25 4 (dk_at dksX1_bypass_1 21 rfl rfl)
theorem dX1_bypass_46 : decode cX1_bypass 46 = .ok (.aload_n 2, 1) := dk_44 (dk_at dksX1_bypass_1 23 rfl rfl)
theorem dX1_bypass_47 : decode cX1_bypass 47 = .ok (.iload 5, 2) := dk_21 5 (dk_at dksX1_bypass_2 0 rfl rfl)
theorem dX1_bypass_49 : decode cX1_bypass 49 = .ok (.invokeinterface 58 2, 5) := by decide +kernel
theorem dX1_bypass_54 : decode cX1_bypass 54 = .ok (.checkcast 21, 3) := dk_192 0 21 (dk_at dksX1_bypass_2 7 rfl rfl)
theorem dX1_bypass_57 : decode cX1_bypass 57 = .ok (.invokestatic 107, 3) := dk_184 0 107 (dk_at dksX1_bypass_2 10 rfl rfl)
theorem dX1_bypass_60 : decode cX1_bypass 60 = .ok (.goto 49, 3) := dk_167 0 49 (dk_at dksX1_bypass_2 13 rfl rfl)
theorem dX1_bypass_63 : decode cX1_bypass 63 = .ok (.aload 6, 2) := dk_25 6 (dk_at dksX1_bypass_2 16 rfl rfl)
theorem dX1_bypass_65 : decode cX1_bypass 65 = .ok (.iload_n 1, 1) := dk_27 (dk_at dksX1_bypass_2 18 rfl rfl)
theorem dX1_bypass_66 : decode cX1_bypass 66 = .ok (.invokevirtual 91, 3) := dk_182 0 91 (dk_at dksX1_bypass_2 19 rfl rfl)
theorem dX1_bypass_69 : decode cX1_bypass 69 = .ok (.astore 7, 2) := dk_58 7 (dk_at dksX1_bypass_2 22 rfl rfl)
theorem dX1_bypass_71 : decode cX1_bypass 71 = .ok (.iconst 0, 1) := dk_3 (dk_at dksX1_bypass_3 0 rfl rfl)
theorem dX1_bypass_72 : decode cX1_bypass 72 = .ok (.istore 8, 2) := dk_54 8 (dk_at dksX1_bypass_3 1 rfl rfl)
theorem dX1_bypass_74 : decode cX1_bypass 74 = .ok (.iload 8, 2) := dk_21 8 (dk_at dksX1_bypass_3 3 rfl rfl)
theorem dX1_bypass_76 : decode cX1_bypass 76 = .ok (.aload 7, 2) := dk_25 7 (dk_at dksX1_bypass_3 5 rfl rfl)
theorem dX1_bypass_78 : decode cX1_bypass 78 = .ok (.invokeinterface 38 1, 5) := by decide +kernel
theorem dX1_bypass_83 : decode cX1_bypass 83 = .ok (.if_icmp .ge 26, 3) := dk_162 0 26 (dk_at dksX1_bypass_3 12 rfl rfl)
theorem dX1_bypass_86 : decode cX1_bypass 86 = .ok (.aload 4, 2) := dk_25 4 (dk_at dksX1_bypass_3 15 rfl rfl)
theorem dX1_bypass_88 : decode cX1_bypass 88 = .ok (.aload 7, 2) := dk_25 7 (dk_at dksX1_bypass_3 17 rfl rfl)
theorem dX1_bypass_90 : decode cX1_bypass 90 = .ok (.iload 8, 2) := dk_21 8 (dk_at dksX1_bypass_3 19 rfl rfl)
theorem dX1_bypass_92 : decode cX1_bypass 92 = .ok (.invokeinterface 58 2, 5) := by decide +kernel
theorem dX1_bypass_97 : decode cX1_bypass 97 = .ok (.checkcast 21, 3) := dk_192 0 21 (dk_at dksX1_bypass_4 5 rfl rfl)
theorem dX1_bypass_100 : decode cX1_bypass 100 = .ok (.invokestatic 107, 3) := dk_184 0 107 (dk_at dksX1_bypass_4 8 rfl rfl)
theorem dX1_bypass_103 : decode cX1_bypass 103 = .ok (.iinc 8 1, 3) := dk_132 8 1 (dk_at dksX1_bypass_4 11 rfl rfl)
theorem dX1_bypass_106 : decode cX1_bypass 106 = .ok (.goto (-32), 3) := dk_167 255 224 (dk_at dksX1_bypass_4 14 rfl rfl)
theorem dX1_bypass_109 : decode cX1_bypass 109 = .ok (.iinc 5 1, 3) := dk_132 5 1 (dk_at dksX1_bypass_4 17 rfl rfl)
theorem dX1_bypass_112 : decode cX1_bypass 112 = .ok (.goto (-103), 3) := dk_167 255 153 (dk_at dksX1_bypass_4 20 rfl rfl)
theorem dX1_bypass_115 : decode cX1_bypass 115 = .ok (.aload 4, 2) := dk_25 4 (dk_at dksX1_bypass_5 0 rfl rfl)
theorem dX1_bypass_117 : decode cX1_bypass 117 = .ok (.areturn, 1) := dk_176 (dk_at dksX1_bypass_5 2 rfl rfl)
abbrev cX1_reversal : ByteArray := prog_2_method_10_code
def yX1_reversal : MethodName := ⟨RX1, "reversal", "(ILGameCalculator$Game;LGameCalculator$Game;)LGameCalculator$Game;"⟩
def dkwX1_reversal_2 : List UInt8 := [21, 5, 185, 0, 58, 2, 0, 192, 0, 21, 176, 132, 5, 1, 167, 255, 207, 1, 176]
abbrev dktX1_reversal_2 : List UInt8 := dkwX1_reversal_2 ++ []
def dkwX1_reversal_1 : List UInt8 := [42, 27, 25, 4, 21, 5, 185, 0, 58, 2, 0, 192, 0, 21, 45, 182, 0, 95, 153, 0, 16, 25, 4]
abbrev dktX1_reversal_1 : List UInt8 := dkwX1_reversal_1 ++ dktX1_reversal_2
def dkwX1_reversal_0 : List UInt8 := [44, 4, 27, 100, 182, 0, 91, 58, 4, 3, 54, 5, 21, 5, 25, 4, 185, 0, 38, 1, 0, 162, 0, 43]
abbrev dktX1_reversal_0 : List UInt8 := dkwX1_reversal_0 ++ dktX1_reversal_1
theorem dksX1_reversal_0 : cX1_reversal.data.toList.drop 0 = dktX1_reversal_0 := by decide +kernel
theorem dksX1_reversal_1 : cX1_reversal.data.toList.drop 24 = dktX1_reversal_1 := dk_seg dksX1_reversal_0 24 rfl rfl
theorem dksX1_reversal_2 : cX1_reversal.data.toList.drop 47 = dktX1_reversal_2 := dk_seg dksX1_reversal_1 23 rfl rfl
theorem dX1_reversal_0 : decode cX1_reversal 0 = .ok (.aload_n 2, 1) := dk_44 (dk_at dksX1_reversal_0 0 rfl rfl)
theorem dX1_reversal_1 : decode cX1_reversal 1 = .ok (.iconst 1, 1) := dk_4 (dk_at dksX1_reversal_0 1 rfl rfl)
theorem dX1_reversal_2 : decode cX1_reversal 2 = .ok (.iload_n 1, 1) := dk_27 (dk_at dksX1_reversal_0 2 rfl rfl)
theorem dX1_reversal_3 : decode cX1_reversal 3 = .ok (.isub, 1) := dk_100 (dk_at dksX1_reversal_0 3 rfl rfl)
theorem dX1_reversal_4 : decode cX1_reversal 4 = .ok (.invokevirtual 91, 3) := dk_182 0 91 (dk_at dksX1_reversal_0 4 rfl rfl)
theorem dX1_reversal_7 : decode cX1_reversal 7 = .ok (.astore 4, 2) := dk_58 4 (dk_at dksX1_reversal_0 7 rfl rfl)
theorem dX1_reversal_9 : decode cX1_reversal 9 = .ok (.iconst 0, 1) := dk_3 (dk_at dksX1_reversal_0 9 rfl rfl)
theorem dX1_reversal_10 : decode cX1_reversal 10 = .ok (.istore 5, 2) := dk_54 5 (dk_at dksX1_reversal_0 10 rfl rfl)
theorem dX1_reversal_12 : decode cX1_reversal 12 = .ok (.iload 5, 2) := dk_21 5 (dk_at dksX1_reversal_0 12 rfl rfl)
theorem dX1_reversal_14 : decode cX1_reversal 14 = .ok (.aload 4, 2) := dk_25 4 (dk_at dksX1_reversal_0 14 rfl rfl)
theorem dX1_reversal_16 : decode cX1_reversal 16 = .ok (.invokeinterface 38 1, 5) := by decide +kernel
theorem dX1_reversal_21 : decode cX1_reversal 21 = .ok (.if_icmp .ge 43, 3) := dk_162 0 43 (dk_at dksX1_reversal_0 21 rfl rfl)
theorem dX1_reversal_24 : decode cX1_reversal 24 = .ok (.aload_n 0, 1) := dk_42 (dk_at dksX1_reversal_1 0 rfl rfl)
theorem dX1_reversal_25 : decode cX1_reversal 25 = .ok (.iload_n 1, 1) := dk_27 (dk_at dksX1_reversal_1 1 rfl rfl)
theorem dX1_reversal_26 : decode cX1_reversal 26 = .ok (.aload 4, 2) := dk_25 4 (dk_at dksX1_reversal_1 2 rfl rfl)
theorem dX1_reversal_28 : decode cX1_reversal 28 = .ok (.iload 5, 2) := dk_21 5 (dk_at dksX1_reversal_1 4 rfl rfl)
theorem dX1_reversal_30 : decode cX1_reversal 30 = .ok (.invokeinterface 58 2, 5) := by decide +kernel
theorem dX1_reversal_35 : decode cX1_reversal 35 = .ok (.checkcast 21, 3) := dk_192 0 21 (dk_at dksX1_reversal_1 11 rfl rfl)
theorem dX1_reversal_38 : decode cX1_reversal 38 = .ok (.aload_n 3, 1) := dk_45 (dk_at dksX1_reversal_1 14 rfl rfl)
theorem dX1_reversal_39 : decode cX1_reversal 39 = .ok (.invokevirtual 95, 3) := dk_182 0 95 (dk_at dksX1_reversal_1 15 rfl rfl)
theorem dX1_reversal_42 : decode cX1_reversal 42 = .ok (.ifCond .eq 16, 3) := dk_153 0 16 (dk_at dksX1_reversal_1 18 rfl rfl)
theorem dX1_reversal_45 : decode cX1_reversal 45 = .ok (.aload 4, 2) := dk_25 4 (dk_at dksX1_reversal_1 21 rfl rfl)
theorem dX1_reversal_47 : decode cX1_reversal 47 = .ok (.iload 5, 2) := dk_21 5 (dk_at dksX1_reversal_2 0 rfl rfl)
theorem dX1_reversal_49 : decode cX1_reversal 49 = .ok (.invokeinterface 58 2, 5) := by decide +kernel
theorem dX1_reversal_54 : decode cX1_reversal 54 = .ok (.checkcast 21, 3) := dk_192 0 21 (dk_at dksX1_reversal_2 7 rfl rfl)
theorem dX1_reversal_57 : decode cX1_reversal 57 = .ok (.areturn, 1) := dk_176 (dk_at dksX1_reversal_2 10 rfl rfl)
theorem dX1_reversal_58 : decode cX1_reversal 58 = .ok (.iinc 5 1, 3) := dk_132 5 1 (dk_at dksX1_reversal_2 11 rfl rfl)
theorem dX1_reversal_61 : decode cX1_reversal 61 = .ok (.goto (-49), 3) := dk_167 255 207 (dk_at dksX1_reversal_2 14 rfl rfl)
theorem dX1_reversal_64 : decode cX1_reversal 64 = .ok (.aconst_null, 1) := dk_1 (dk_at dksX1_reversal_2 17 rfl rfl)
theorem dX1_reversal_65 : decode cX1_reversal 65 = .ok (.areturn, 1) := dk_176 (dk_at dksX1_reversal_2 18 rfl rfl)
abbrev cX1_isNoBetter : ByteArray := prog_2_method_9_code
def yX1_isNoBetter : MethodName := ⟨RX1, "isNoBetter", "(ILGameCalculator$Game;LGameCalculator$Game;)Z"⟩
def dkwX1_isNoBetter_0 : List UInt8 := [27, 154, 0, 12, 42, 44, 45, 182, 0, 62, 167, 0, 9, 42, 45, 44, 182, 0, 62, 172]
abbrev dktX1_isNoBetter_0 : List UInt8 := dkwX1_isNoBetter_0 ++ []
theorem dksX1_isNoBetter_0 : cX1_isNoBetter.data.toList.drop 0 = dktX1_isNoBetter_0 := by decide +kernel
theorem dX1_isNoBetter_0 : decode cX1_isNoBetter 0 = .ok (.iload_n 1, 1) := dk_27 (dk_at dksX1_isNoBetter_0 0 rfl rfl)
theorem dX1_isNoBetter_1 : decode cX1_isNoBetter 1 = .ok (.ifCond .ne 12, 3) := dk_154 0 12 (dk_at dksX1_isNoBetter_0 1 rfl rfl)
theorem dX1_isNoBetter_4 : decode cX1_isNoBetter 4 = .ok (.aload_n 0, 1) := dk_42 (dk_at dksX1_isNoBetter_0 4 rfl rfl)
theorem dX1_isNoBetter_5 : decode cX1_isNoBetter 5 = .ok (.aload_n 2, 1) := dk_44 (dk_at dksX1_isNoBetter_0 5 rfl rfl)
theorem dX1_isNoBetter_6 : decode cX1_isNoBetter 6 = .ok (.aload_n 3, 1) := dk_45 (dk_at dksX1_isNoBetter_0 6 rfl rfl)
theorem dX1_isNoBetter_7 : decode cX1_isNoBetter 7 = .ok (.invokevirtual 62, 3) := dk_182 0 62 (dk_at dksX1_isNoBetter_0 7 rfl rfl)
theorem dX1_isNoBetter_10 : decode cX1_isNoBetter 10 = .ok (.goto 9, 3) := dk_167 0 9 (dk_at dksX1_isNoBetter_0 10 rfl rfl)
theorem dX1_isNoBetter_13 : decode cX1_isNoBetter 13 = .ok (.aload_n 0, 1) := dk_42 (dk_at dksX1_isNoBetter_0 13 rfl rfl)
theorem dX1_isNoBetter_14 : decode cX1_isNoBetter 14 = .ok (.aload_n 3, 1) := dk_45 (dk_at dksX1_isNoBetter_0 14 rfl rfl)
theorem dX1_isNoBetter_15 : decode cX1_isNoBetter 15 = .ok (.aload_n 2, 1) := dk_44 (dk_at dksX1_isNoBetter_0 15 rfl rfl)
theorem dX1_isNoBetter_16 : decode cX1_isNoBetter 16 = .ok (.invokevirtual 62, 3) := dk_182 0 62 (dk_at dksX1_isNoBetter_0 16 rfl rfl)
theorem dX1_isNoBetter_19 : decode cX1_isNoBetter 19 = .ok (.ireturn, 1) := dk_172 (dk_at dksX1_isNoBetter_0 19 rfl rfl)
abbrev cX1_isAtMost : ByteArray := prog_2_method_3_code
def yX1_isAtMost : MethodName := ⟨RX1, "isAtMost", "(LGameCalculator$Game;LGameCalculator$Game;)Z"⟩
def dkwX1_isAtMost_2 : List UInt8 := [51, 4, 160, 0, 7, 4, 167, 0, 4, 3, 172]
abbrev dktX1_isAtMost_2 : List UInt8 := dkwX1_isAtMost_2 ++ []
def dkwX1_isAtMost_1 : List UInt8 := [180, 0, 34, 29, 42, 43, 44, 182, 0, 51, 153, 0, 7, 4, 167, 0, 4, 5, 84, 42, 180, 0, 34, 29]
abbrev dktX1_isAtMost_1 : List UInt8 := dkwX1_isAtMost_1 ++ dktX1_isAtMost_2
def dkwX1_isAtMost_0 : List UInt8 := [17, 2, 128, 43, 180, 0, 47, 104, 44, 180, 0, 47, 96, 62, 42, 180, 0, 34, 29, 51, 154, 0, 23, 42]
abbrev dktX1_isAtMost_0 : List UInt8 := dkwX1_isAtMost_0 ++ dktX1_isAtMost_1
theorem dksX1_isAtMost_0 : cX1_isAtMost.data.toList.drop 0 = dktX1_isAtMost_0 := by decide +kernel
theorem dksX1_isAtMost_1 : cX1_isAtMost.data.toList.drop 24 = dktX1_isAtMost_1 := dk_seg dksX1_isAtMost_0 24 rfl rfl
theorem dksX1_isAtMost_2 : cX1_isAtMost.data.toList.drop 48 = dktX1_isAtMost_2 := dk_seg dksX1_isAtMost_1 24 rfl rfl
theorem dX1_isAtMost_0 : decode cX1_isAtMost 0 = .ok (.sipush 640, 3) := dk_17 2 128 (dk_at dksX1_isAtMost_0 0 rfl rfl)
theorem dX1_isAtMost_3 : decode cX1_isAtMost 3 = .ok (.aload_n 1, 1) := dk_43 (dk_at dksX1_isAtMost_0 3 rfl rfl)
theorem dX1_isAtMost_4 : decode cX1_isAtMost 4 = .ok (.getfield 47, 3) := dk_180 0 47 (dk_at dksX1_isAtMost_0 4 rfl rfl)
theorem dX1_isAtMost_7 : decode cX1_isAtMost 7 = .ok (.imul, 1) := dk_104 (dk_at dksX1_isAtMost_0 7 rfl rfl)
theorem dX1_isAtMost_8 : decode cX1_isAtMost 8 = .ok (.aload_n 2, 1) := dk_44 (dk_at dksX1_isAtMost_0 8 rfl rfl)
theorem dX1_isAtMost_9 : decode cX1_isAtMost 9 = .ok (.getfield 47, 3) := dk_180 0 47 (dk_at dksX1_isAtMost_0 9 rfl rfl)
theorem dX1_isAtMost_12 : decode cX1_isAtMost 12 = .ok (.iadd, 1) := dk_96 (dk_at dksX1_isAtMost_0 12 rfl rfl)
theorem dX1_isAtMost_13 : decode cX1_isAtMost 13 = .ok (.istore_n 3, 1) := dk_62 (dk_at dksX1_isAtMost_0 13 rfl rfl)
theorem dX1_isAtMost_14 : decode cX1_isAtMost 14 = .ok (.aload_n 0, 1) := dk_42 (dk_at dksX1_isAtMost_0 14 rfl rfl)
theorem dX1_isAtMost_15 : decode cX1_isAtMost 15 = .ok (.getfield 34, 3) := dk_180 0 34 (dk_at dksX1_isAtMost_0 15 rfl rfl)
theorem dX1_isAtMost_18 : decode cX1_isAtMost 18 = .ok (.iload_n 3, 1) := dk_29 (dk_at dksX1_isAtMost_0 18 rfl rfl)
theorem dX1_isAtMost_19 : decode cX1_isAtMost 19 = .ok (.baload, 1) := dk_51 (dk_at dksX1_isAtMost_0 19 rfl rfl)
theorem dX1_isAtMost_20 : decode cX1_isAtMost 20 = .ok (.ifCond .ne 23, 3) := dk_154 0 23 (dk_at dksX1_isAtMost_0 20 rfl rfl)
theorem dX1_isAtMost_23 : decode cX1_isAtMost 23 = .ok (.aload_n 0, 1) := dk_42 (dk_at dksX1_isAtMost_0 23 rfl rfl)
theorem dX1_isAtMost_24 : decode cX1_isAtMost 24 = .ok (.getfield 34, 3) := dk_180 0 34 (dk_at dksX1_isAtMost_1 0 rfl rfl)
theorem dX1_isAtMost_27 : decode cX1_isAtMost 27 = .ok (.iload_n 3, 1) := dk_29 (dk_at dksX1_isAtMost_1 3 rfl rfl)
theorem dX1_isAtMost_28 : decode cX1_isAtMost 28 = .ok (.aload_n 0, 1) := dk_42 (dk_at dksX1_isAtMost_1 4 rfl rfl)
theorem dX1_isAtMost_29 : decode cX1_isAtMost 29 = .ok (.aload_n 1, 1) := dk_43 (dk_at dksX1_isAtMost_1 5 rfl rfl)
theorem dX1_isAtMost_30 : decode cX1_isAtMost 30 = .ok (.aload_n 2, 1) := dk_44 (dk_at dksX1_isAtMost_1 6 rfl rfl)
theorem dX1_isAtMost_31 : decode cX1_isAtMost 31 = .ok (.invokevirtual 51, 3) := dk_182 0 51 (dk_at dksX1_isAtMost_1 7 rfl rfl)
theorem dX1_isAtMost_34 : decode cX1_isAtMost 34 = .ok (.ifCond .eq 7, 3) := dk_153 0 7 (dk_at dksX1_isAtMost_1 10 rfl rfl)
theorem dX1_isAtMost_37 : decode cX1_isAtMost 37 = .ok (.iconst 1, 1) := dk_4 (dk_at dksX1_isAtMost_1 13 rfl rfl)
theorem dX1_isAtMost_38 : decode cX1_isAtMost 38 = .ok (.goto 4, 3) := dk_167 0 4 (dk_at dksX1_isAtMost_1 14 rfl rfl)
theorem dX1_isAtMost_41 : decode cX1_isAtMost 41 = .ok (.iconst 2, 1) := dk_5 (dk_at dksX1_isAtMost_1 17 rfl rfl)
theorem dX1_isAtMost_42 : decode cX1_isAtMost 42 = .ok (.bastore, 1) := dk_84 (dk_at dksX1_isAtMost_1 18 rfl rfl)
theorem dX1_isAtMost_43 : decode cX1_isAtMost 43 = .ok (.aload_n 0, 1) := dk_42 (dk_at dksX1_isAtMost_1 19 rfl rfl)
theorem dX1_isAtMost_44 : decode cX1_isAtMost 44 = .ok (.getfield 34, 3) := dk_180 0 34 (dk_at dksX1_isAtMost_1 20 rfl rfl)
theorem dX1_isAtMost_47 : decode cX1_isAtMost 47 = .ok (.iload_n 3, 1) := dk_29 (dk_at dksX1_isAtMost_1 23 rfl rfl)
theorem dX1_isAtMost_48 : decode cX1_isAtMost 48 = .ok (.baload, 1) := dk_51 (dk_at dksX1_isAtMost_2 0 rfl rfl)
theorem dX1_isAtMost_49 : decode cX1_isAtMost 49 = .ok (.iconst 1, 1) := dk_4 (dk_at dksX1_isAtMost_2 1 rfl rfl)
theorem dX1_isAtMost_50 : decode cX1_isAtMost 50 = .ok (.if_icmp .ne 7, 3) := dk_160 0 7 (dk_at dksX1_isAtMost_2 2 rfl rfl)
theorem dX1_isAtMost_53 : decode cX1_isAtMost 53 = .ok (.iconst 1, 1) := dk_4 (dk_at dksX1_isAtMost_2 5 rfl rfl)
theorem dX1_isAtMost_54 : decode cX1_isAtMost 54 = .ok (.goto 4, 3) := dk_167 0 4 (dk_at dksX1_isAtMost_2 6 rfl rfl)
theorem dX1_isAtMost_57 : decode cX1_isAtMost 57 = .ok (.iconst 0, 1) := dk_3 (dk_at dksX1_isAtMost_2 9 rfl rfl)
theorem dX1_isAtMost_58 : decode cX1_isAtMost 58 = .ok (.ireturn, 1) := dk_172 (dk_at dksX1_isAtMost_2 10 rfl rfl)
abbrev cX1_findAtMost : ByteArray := prog_2_method_4_code
def yX1_findAtMost : MethodName := ⟨RX1, "findAtMost", "(LGameCalculator$Game;LGameCalculator$Game;)Z"⟩
def dkwX1_findAtMost_3 : List UInt8 := [192, 0, 21, 43, 182, 0, 62, 153, 0, 5, 3, 172, 132, 3, 1, 167, 255, 217, 4, 172]
abbrev dktX1_findAtMost_3 : List UInt8 := dkwX1_findAtMost_3 ++ []
def dkwX1_findAtMost_2 : List UInt8 := [29, 44, 180, 0, 65, 185, 0, 38, 1, 0, 162, 0, 32, 42, 44, 180, 0, 65, 29, 185, 0, 58, 2, 0]
abbrev dktX1_findAtMost_2 : List UInt8 := dkwX1_findAtMost_2 ++ dktX1_findAtMost_3
def dkwX1_findAtMost_1 : List UInt8 := [185, 0, 58, 2, 0, 192, 0, 21, 182, 0, 62, 153, 0, 5, 3, 172, 132, 3, 1, 167, 255, 217, 3, 62]
abbrev dktX1_findAtMost_1 : List UInt8 := dkwX1_findAtMost_1 ++ dktX1_findAtMost_2
def dkwX1_findAtMost_0 : List UInt8 := [3, 62, 29, 43, 180, 0, 55, 185, 0, 38, 1, 0, 162, 0, 32, 42, 44, 43, 180, 0, 55, 29]
abbrev dktX1_findAtMost_0 : List UInt8 := dkwX1_findAtMost_0 ++ dktX1_findAtMost_1
theorem dksX1_findAtMost_0 : cX1_findAtMost.data.toList.drop 0 = dktX1_findAtMost_0 := by decide +kernel
theorem dksX1_findAtMost_1 : cX1_findAtMost.data.toList.drop 22 = dktX1_findAtMost_1 := dk_seg dksX1_findAtMost_0 22 rfl rfl
theorem dksX1_findAtMost_2 : cX1_findAtMost.data.toList.drop 46 = dktX1_findAtMost_2 := dk_seg dksX1_findAtMost_1 24 rfl rfl
theorem dksX1_findAtMost_3 : cX1_findAtMost.data.toList.drop 70 = dktX1_findAtMost_3 := dk_seg dksX1_findAtMost_2 24 rfl rfl
theorem dX1_findAtMost_0 : decode cX1_findAtMost 0 = .ok (.iconst 0, 1) := dk_3 (dk_at dksX1_findAtMost_0 0 rfl rfl)
theorem dX1_findAtMost_1 : decode cX1_findAtMost 1 = .ok (.istore_n 3, 1) := dk_62 (dk_at dksX1_findAtMost_0 1 rfl rfl)
theorem dX1_findAtMost_2 : decode cX1_findAtMost 2 = .ok (.iload_n 3, 1) := dk_29 (dk_at dksX1_findAtMost_0 2 rfl rfl)
theorem dX1_findAtMost_3 : decode cX1_findAtMost 3 = .ok (.aload_n 1, 1) := dk_43 (dk_at dksX1_findAtMost_0 3 rfl rfl)
theorem dX1_findAtMost_4 : decode cX1_findAtMost 4 = .ok (.getfield 55, 3) := dk_180 0 55 (dk_at dksX1_findAtMost_0 4 rfl rfl)
theorem dX1_findAtMost_7 : decode cX1_findAtMost 7 = .ok (.invokeinterface 38 1, 5) := by decide +kernel
theorem dX1_findAtMost_12 : decode cX1_findAtMost 12 = .ok (.if_icmp .ge 32, 3) := dk_162 0 32 (dk_at dksX1_findAtMost_0 12 rfl rfl)
theorem dX1_findAtMost_15 : decode cX1_findAtMost 15 = .ok (.aload_n 0, 1) := dk_42 (dk_at dksX1_findAtMost_0 15 rfl rfl)
theorem dX1_findAtMost_16 : decode cX1_findAtMost 16 = .ok (.aload_n 2, 1) := dk_44 (dk_at dksX1_findAtMost_0 16 rfl rfl)
theorem dX1_findAtMost_17 : decode cX1_findAtMost 17 = .ok (.aload_n 1, 1) := dk_43 (dk_at dksX1_findAtMost_0 17 rfl rfl)
theorem dX1_findAtMost_18 : decode cX1_findAtMost 18 = .ok (.getfield 55, 3) := dk_180 0 55 (dk_at dksX1_findAtMost_0 18 rfl rfl)
theorem dX1_findAtMost_21 : decode cX1_findAtMost 21 = .ok (.iload_n 3, 1) := dk_29 (dk_at dksX1_findAtMost_0 21 rfl rfl)
theorem dX1_findAtMost_22 : decode cX1_findAtMost 22 = .ok (.invokeinterface 58 2, 5) := by decide +kernel
theorem dX1_findAtMost_27 : decode cX1_findAtMost 27 = .ok (.checkcast 21, 3) := dk_192 0 21 (dk_at dksX1_findAtMost_1 5 rfl rfl)
theorem dX1_findAtMost_30 : decode cX1_findAtMost 30 = .ok (.invokevirtual 62, 3) := dk_182 0 62 (dk_at dksX1_findAtMost_1 8 rfl rfl)
theorem dX1_findAtMost_33 : decode cX1_findAtMost 33 = .ok (.ifCond .eq 5, 3) := dk_153 0 5 (dk_at dksX1_findAtMost_1 11 rfl rfl)
theorem dX1_findAtMost_36 : decode cX1_findAtMost 36 = .ok (.iconst 0, 1) := dk_3 (dk_at dksX1_findAtMost_1 14 rfl rfl)
theorem dX1_findAtMost_37 : decode cX1_findAtMost 37 = .ok (.ireturn, 1) := dk_172 (dk_at dksX1_findAtMost_1 15 rfl rfl)
theorem dX1_findAtMost_38 : decode cX1_findAtMost 38 = .ok (.iinc 3 1, 3) := dk_132 3 1 (dk_at dksX1_findAtMost_1 16 rfl rfl)
theorem dX1_findAtMost_41 : decode cX1_findAtMost 41 = .ok (.goto (-39), 3) := dk_167 255 217 (dk_at dksX1_findAtMost_1 19 rfl rfl)
theorem dX1_findAtMost_44 : decode cX1_findAtMost 44 = .ok (.iconst 0, 1) := dk_3 (dk_at dksX1_findAtMost_1 22 rfl rfl)
theorem dX1_findAtMost_45 : decode cX1_findAtMost 45 = .ok (.istore_n 3, 1) := dk_62 (dk_at dksX1_findAtMost_1 23 rfl rfl)
theorem dX1_findAtMost_46 : decode cX1_findAtMost 46 = .ok (.iload_n 3, 1) := dk_29 (dk_at dksX1_findAtMost_2 0 rfl rfl)
theorem dX1_findAtMost_47 : decode cX1_findAtMost 47 = .ok (.aload_n 2, 1) := dk_44 (dk_at dksX1_findAtMost_2 1 rfl rfl)
theorem dX1_findAtMost_48 : decode cX1_findAtMost 48 = .ok (.getfield 65, 3) := dk_180 0 65 (dk_at dksX1_findAtMost_2 2 rfl rfl)
theorem dX1_findAtMost_51 : decode cX1_findAtMost 51 = .ok (.invokeinterface 38 1, 5) := by decide +kernel
theorem dX1_findAtMost_56 : decode cX1_findAtMost 56 = .ok (.if_icmp .ge 32, 3) := dk_162 0 32 (dk_at dksX1_findAtMost_2 10 rfl rfl)
theorem dX1_findAtMost_59 : decode cX1_findAtMost 59 = .ok (.aload_n 0, 1) := dk_42 (dk_at dksX1_findAtMost_2 13 rfl rfl)
theorem dX1_findAtMost_60 : decode cX1_findAtMost 60 = .ok (.aload_n 2, 1) := dk_44 (dk_at dksX1_findAtMost_2 14 rfl rfl)
theorem dX1_findAtMost_61 : decode cX1_findAtMost 61 = .ok (.getfield 65, 3) := dk_180 0 65 (dk_at dksX1_findAtMost_2 15 rfl rfl)
theorem dX1_findAtMost_64 : decode cX1_findAtMost 64 = .ok (.iload_n 3, 1) := dk_29 (dk_at dksX1_findAtMost_2 18 rfl rfl)
theorem dX1_findAtMost_65 : decode cX1_findAtMost 65 = .ok (.invokeinterface 58 2, 5) := by decide +kernel
theorem dX1_findAtMost_70 : decode cX1_findAtMost 70 = .ok (.checkcast 21, 3) := dk_192 0 21 (dk_at dksX1_findAtMost_3 0 rfl rfl)
theorem dX1_findAtMost_73 : decode cX1_findAtMost 73 = .ok (.aload_n 1, 1) := dk_43 (dk_at dksX1_findAtMost_3 3 rfl rfl)
theorem dX1_findAtMost_74 : decode cX1_findAtMost 74 = .ok (.invokevirtual 62, 3) := dk_182 0 62 (dk_at dksX1_findAtMost_3 4 rfl rfl)
theorem dX1_findAtMost_77 : decode cX1_findAtMost 77 = .ok (.ifCond .eq 5, 3) := dk_153 0 5 (dk_at dksX1_findAtMost_3 7 rfl rfl)
theorem dX1_findAtMost_80 : decode cX1_findAtMost 80 = .ok (.iconst 0, 1) := dk_3 (dk_at dksX1_findAtMost_3 10 rfl rfl)
theorem dX1_findAtMost_81 : decode cX1_findAtMost 81 = .ok (.ireturn, 1) := dk_172 (dk_at dksX1_findAtMost_3 11 rfl rfl)
theorem dX1_findAtMost_82 : decode cX1_findAtMost 82 = .ok (.iinc 3 1, 3) := dk_132 3 1 (dk_at dksX1_findAtMost_3 12 rfl rfl)
theorem dX1_findAtMost_85 : decode cX1_findAtMost 85 = .ok (.goto (-39), 3) := dk_167 255 217 (dk_at dksX1_findAtMost_3 15 rfl rfl)
theorem dX1_findAtMost_88 : decode cX1_findAtMost 88 = .ok (.iconst 1, 1) := dk_4 (dk_at dksX1_findAtMost_3 18 rfl rfl)
theorem dX1_findAtMost_89 : decode cX1_findAtMost 89 = .ok (.ireturn, 1) := dk_172 (dk_at dksX1_findAtMost_3 19 rfl rfl)
abbrev cX1_add : ByteArray := prog_2_method_11_code
def yX1_add : MethodName := ⟨RX1, "add", "(Ljava/util/List;LGameCalculator$Game;)V"⟩
def dkwX1_add_2 : List UInt8 := [185, 0, 75, 2, 0, 87, 177]
abbrev dktX1_add_2 : List UInt8 := dkwX1_add_2 ++ []
def dkwX1_add_1 : List UInt8 := [166, 0, 7, 4, 167, 0, 4, 3, 128, 61, 132, 3, 1, 167, 255, 224, 28, 154, 0, 11, 42, 43]
abbrev dktX1_add_1 : List UInt8 := dkwX1_add_1 ++ dktX1_add_2
def dkwX1_add_0 : List UInt8 := [3, 61, 3, 62, 29, 42, 185, 0, 38, 1, 0, 162, 0, 28, 28, 42, 29, 185, 0, 58, 2, 0, 43]
abbrev dktX1_add_0 : List UInt8 := dkwX1_add_0 ++ dktX1_add_1
theorem dksX1_add_0 : cX1_add.data.toList.drop 0 = dktX1_add_0 := by decide +kernel
theorem dksX1_add_1 : cX1_add.data.toList.drop 23 = dktX1_add_1 := dk_seg dksX1_add_0 23 rfl rfl
theorem dksX1_add_2 : cX1_add.data.toList.drop 45 = dktX1_add_2 := dk_seg dksX1_add_1 22 rfl rfl
theorem dX1_add_0 : decode cX1_add 0 = .ok (.iconst 0, 1) := dk_3 (dk_at dksX1_add_0 0 rfl rfl)
theorem dX1_add_1 : decode cX1_add 1 = .ok (.istore_n 2, 1) := dk_61 (dk_at dksX1_add_0 1 rfl rfl)
theorem dX1_add_2 : decode cX1_add 2 = .ok (.iconst 0, 1) := dk_3 (dk_at dksX1_add_0 2 rfl rfl)
theorem dX1_add_3 : decode cX1_add 3 = .ok (.istore_n 3, 1) := dk_62 (dk_at dksX1_add_0 3 rfl rfl)
theorem dX1_add_4 : decode cX1_add 4 = .ok (.iload_n 3, 1) := dk_29 (dk_at dksX1_add_0 4 rfl rfl)
theorem dX1_add_5 : decode cX1_add 5 = .ok (.aload_n 0, 1) := dk_42 (dk_at dksX1_add_0 5 rfl rfl)
theorem dX1_add_6 : decode cX1_add 6 = .ok (.invokeinterface 38 1, 5) := by decide +kernel
theorem dX1_add_11 : decode cX1_add 11 = .ok (.if_icmp .ge 28, 3) := dk_162 0 28 (dk_at dksX1_add_0 11 rfl rfl)
theorem dX1_add_14 : decode cX1_add 14 = .ok (.iload_n 2, 1) := dk_28 (dk_at dksX1_add_0 14 rfl rfl)
theorem dX1_add_15 : decode cX1_add 15 = .ok (.aload_n 0, 1) := dk_42 (dk_at dksX1_add_0 15 rfl rfl)
theorem dX1_add_16 : decode cX1_add 16 = .ok (.iload_n 3, 1) := dk_29 (dk_at dksX1_add_0 16 rfl rfl)
theorem dX1_add_17 : decode cX1_add 17 = .ok (.invokeinterface 58 2, 5) := by decide +kernel
theorem dX1_add_22 : decode cX1_add 22 = .ok (.aload_n 1, 1) := dk_43 (dk_at dksX1_add_0 22 rfl rfl)
theorem dX1_add_23 : decode cX1_add 23 = .ok (.if_acmp .ne 7, 3) := dk_166 0 7 (dk_at dksX1_add_1 0 rfl rfl)
theorem dX1_add_26 : decode cX1_add 26 = .ok (.iconst 1, 1) := dk_4 (dk_at dksX1_add_1 3 rfl rfl)
theorem dX1_add_27 : decode cX1_add 27 = .ok (.goto 4, 3) := dk_167 0 4 (dk_at dksX1_add_1 4 rfl rfl)
theorem dX1_add_30 : decode cX1_add 30 = .ok (.iconst 0, 1) := dk_3 (dk_at dksX1_add_1 7 rfl rfl)
theorem dX1_add_31 : decode cX1_add 31 = .ok (.ior, 1) := dk_128 (dk_at dksX1_add_1 8 rfl rfl)
theorem dX1_add_32 : decode cX1_add 32 = .ok (.istore_n 2, 1) := dk_61 (dk_at dksX1_add_1 9 rfl rfl)
theorem dX1_add_33 : decode cX1_add 33 = .ok (.iinc 3 1, 3) := dk_132 3 1 (dk_at dksX1_add_1 10 rfl rfl)
theorem dX1_add_36 : decode cX1_add 36 = .ok (.goto (-32), 3) := dk_167 255 224 (dk_at dksX1_add_1 13 rfl rfl)
theorem dX1_add_39 : decode cX1_add 39 = .ok (.iload_n 2, 1) := dk_28 (dk_at dksX1_add_1 16 rfl rfl)
theorem dX1_add_40 : decode cX1_add 40 = .ok (.ifCond .ne 11, 3) := dk_154 0 11 (dk_at dksX1_add_1 17 rfl rfl)
theorem dX1_add_43 : decode cX1_add 43 = .ok (.aload_n 0, 1) := dk_42 (dk_at dksX1_add_1 20 rfl rfl)
theorem dX1_add_44 : decode cX1_add 44 = .ok (.aload_n 1, 1) := dk_43 (dk_at dksX1_add_1 21 rfl rfl)
theorem dX1_add_45 : decode cX1_add 45 = .ok (.invokeinterface 75 2, 5) := by decide +kernel
theorem dX1_add_50 : decode cX1_add 50 = .ok (.pop, 1) := dk_87 (dk_at dksX1_add_2 5 rfl rfl)
theorem dX1_add_51 : decode cX1_add 51 = .ok (.return_, 1) := dk_177 (dk_at dksX1_add_2 6 rfl rfl)
abbrev cX1_best : ByteArray := prog_2_method_14_code
def yX1_best : MethodName := ⟨RX1, "best", "(ILjava/util/List;)Ljava/util/List;"⟩
def dkwX1_best_6 : List UInt8 := [167, 255, 210, 45, 176]
abbrev dktX1_best_6 : List UInt8 := dkwX1_best_6 ++ []
def dkwX1_best_5 : List UInt8 := [44, 182, 0, 117, 153, 0, 15, 45, 21, 4, 185, 0, 72, 2, 0, 87, 167, 255, 216, 132, 4, 1]
abbrev dktX1_best_5 : List UInt8 := dkwX1_best_5 ++ dktX1_best_6
def dkwX1_best_4 : List UInt8 := [21, 4, 45, 185, 0, 38, 1, 0, 162, 0, 41, 42, 27, 45, 21, 4, 185, 0, 58, 2, 0, 192, 0, 21]
abbrev dktX1_best_4 : List UInt8 := dkwX1_best_4 ++ dktX1_best_5
def dkwX1_best_3 : List UInt8 := [21, 4, 185, 0, 58, 2, 0, 192, 0, 21, 185, 0, 114, 3, 0, 132, 4, 1, 167, 255, 175, 3, 54, 4]
abbrev dktX1_best_3 : List UInt8 := dkwX1_best_3 ++ dktX1_best_4
def dkwX1_best_2 : List UInt8 := [185, 0, 58, 2, 0, 192, 0, 21, 182, 0, 110, 156, 0, 9, 132, 5, 1, 167, 255, 214, 45, 21, 5, 44]
abbrev dktX1_best_2 : List UInt8 := dkwX1_best_2 ++ dktX1_best_3
def dkwX1_best_1 : List UInt8 := [45, 185, 0, 38, 1, 0, 162, 0, 37, 45, 21, 5, 185, 0, 58, 2, 0, 192, 0, 21, 44, 21, 4]
abbrev dktX1_best_1 : List UInt8 := dkwX1_best_1 ++ dktX1_best_2
def dkwX1_best_0 : List UInt8 := [42, 182, 0, 99, 78, 3, 54, 4, 21, 4, 44, 185, 0, 38, 1, 0, 162, 0, 76, 3, 54, 5, 21, 5]
abbrev dktX1_best_0 : List UInt8 := dkwX1_best_0 ++ dktX1_best_1
theorem dksX1_best_0 : cX1_best.data.toList.drop 0 = dktX1_best_0 := by decide +kernel
theorem dksX1_best_1 : cX1_best.data.toList.drop 24 = dktX1_best_1 := dk_seg dksX1_best_0 24 rfl rfl
theorem dksX1_best_2 : cX1_best.data.toList.drop 47 = dktX1_best_2 := dk_seg dksX1_best_1 23 rfl rfl
theorem dksX1_best_3 : cX1_best.data.toList.drop 71 = dktX1_best_3 := dk_seg dksX1_best_2 24 rfl rfl
theorem dksX1_best_4 : cX1_best.data.toList.drop 95 = dktX1_best_4 := dk_seg dksX1_best_3 24 rfl rfl
theorem dksX1_best_5 : cX1_best.data.toList.drop 119 = dktX1_best_5 := dk_seg dksX1_best_4 24 rfl rfl
theorem dksX1_best_6 : cX1_best.data.toList.drop 141 = dktX1_best_6 := dk_seg dksX1_best_5 22 rfl rfl
theorem dX1_best_0 : decode cX1_best 0 = .ok (.aload_n 0, 1) := dk_42 (dk_at dksX1_best_0 0 rfl rfl)
theorem dX1_best_1 : decode cX1_best 1 = .ok (.invokevirtual 99, 3) := dk_182 0 99 (dk_at dksX1_best_0 1 rfl rfl)
theorem dX1_best_4 : decode cX1_best 4 = .ok (.astore_n 3, 1) := dk_78 (dk_at dksX1_best_0 4 rfl rfl)
theorem dX1_best_5 : decode cX1_best 5 = .ok (.iconst 0, 1) := dk_3 (dk_at dksX1_best_0 5 rfl rfl)
theorem dX1_best_6 : decode cX1_best 6 = .ok (.istore 4, 2) := dk_54 4 (dk_at dksX1_best_0 6 rfl rfl)
theorem dX1_best_8 : decode cX1_best 8 = .ok (.iload 4, 2) := dk_21 4 (dk_at dksX1_best_0 8 rfl rfl)
theorem dX1_best_10 : decode cX1_best 10 = .ok (.aload_n 2, 1) := dk_44 (dk_at dksX1_best_0 10 rfl rfl)
theorem dX1_best_11 : decode cX1_best 11 = .ok (.invokeinterface 38 1, 5) := by decide +kernel
theorem dX1_best_16 : decode cX1_best 16 = .ok (.if_icmp .ge 76, 3) := dk_162 0 76 (dk_at dksX1_best_0 16 rfl rfl)
theorem dX1_best_19 : decode cX1_best 19 = .ok (.iconst 0, 1) := dk_3 (dk_at dksX1_best_0 19 rfl rfl)
theorem dX1_best_20 : decode cX1_best 20 = .ok (.istore 5, 2) := dk_54 5 (dk_at dksX1_best_0 20 rfl rfl)
theorem dX1_best_22 : decode cX1_best 22 = .ok (.iload 5, 2) := dk_21 5 (dk_at dksX1_best_0 22 rfl rfl)
theorem dX1_best_24 : decode cX1_best 24 = .ok (.aload_n 3, 1) := dk_45 (dk_at dksX1_best_1 0 rfl rfl)
theorem dX1_best_25 : decode cX1_best 25 = .ok (.invokeinterface 38 1, 5) := by decide +kernel
theorem dX1_best_30 : decode cX1_best 30 = .ok (.if_icmp .ge 37, 3) := dk_162 0 37 (dk_at dksX1_best_1 6 rfl rfl)
theorem dX1_best_33 : decode cX1_best 33 = .ok (.aload_n 3, 1) := dk_45 (dk_at dksX1_best_1 9 rfl rfl)
theorem dX1_best_34 : decode cX1_best 34 = .ok (.iload 5, 2) := dk_21 5 (dk_at dksX1_best_1 10 rfl rfl)
theorem dX1_best_36 : decode cX1_best 36 = .ok (.invokeinterface 58 2, 5) := by decide +kernel
theorem dX1_best_41 : decode cX1_best 41 = .ok (.checkcast 21, 3) := dk_192 0 21 (dk_at dksX1_best_1 17 rfl rfl)
theorem dX1_best_44 : decode cX1_best 44 = .ok (.aload_n 2, 1) := dk_44 (dk_at dksX1_best_1 20 rfl rfl)
theorem dX1_best_45 : decode cX1_best 45 = .ok (.iload 4, 2) := dk_21 4 (dk_at dksX1_best_1 21 rfl rfl)
theorem dX1_best_47 : decode cX1_best 47 = .ok (.invokeinterface 58 2, 5) := by decide +kernel
theorem dX1_best_52 : decode cX1_best 52 = .ok (.checkcast 21, 3) := dk_192 0 21 (dk_at dksX1_best_2 5 rfl rfl)
theorem dX1_best_55 : decode cX1_best 55 = .ok (.invokevirtual 110, 3) := dk_182 0 110 (dk_at dksX1_best_2 8 rfl rfl)
theorem dX1_best_58 : decode cX1_best 58 = .ok (.ifCond .ge 9, 3) := dk_156 0 9 (dk_at dksX1_best_2 11 rfl rfl)
theorem dX1_best_61 : decode cX1_best 61 = .ok (.iinc 5 1, 3) := dk_132 5 1 (dk_at dksX1_best_2 14 rfl rfl)
theorem dX1_best_64 : decode cX1_best 64 = .ok (.goto (-42), 3) := dk_167 255 214 (dk_at dksX1_best_2 17 rfl rfl)
theorem dX1_best_67 : decode cX1_best 67 = .ok (.aload_n 3, 1) := dk_45 (dk_at dksX1_best_2 20 rfl rfl)
theorem dX1_best_68 : decode cX1_best 68 = .ok (.iload 5, 2) := dk_21 5 (dk_at dksX1_best_2 21 rfl rfl)
theorem dX1_best_70 : decode cX1_best 70 = .ok (.aload_n 2, 1) := dk_44 (dk_at dksX1_best_2 23 rfl rfl)
theorem dX1_best_71 : decode cX1_best 71 = .ok (.iload 4, 2) := dk_21 4 (dk_at dksX1_best_3 0 rfl rfl)
theorem dX1_best_73 : decode cX1_best 73 = .ok (.invokeinterface 58 2, 5) := by decide +kernel
theorem dX1_best_78 : decode cX1_best 78 = .ok (.checkcast 21, 3) := dk_192 0 21 (dk_at dksX1_best_3 7 rfl rfl)
theorem dX1_best_81 : decode cX1_best 81 = .ok (.invokeinterface 114 3, 5) := by decide +kernel
theorem dX1_best_86 : decode cX1_best 86 = .ok (.iinc 4 1, 3) := dk_132 4 1 (dk_at dksX1_best_3 15 rfl rfl)
theorem dX1_best_89 : decode cX1_best 89 = .ok (.goto (-81), 3) := dk_167 255 175 (dk_at dksX1_best_3 18 rfl rfl)
theorem dX1_best_92 : decode cX1_best 92 = .ok (.iconst 0, 1) := dk_3 (dk_at dksX1_best_3 21 rfl rfl)
theorem dX1_best_93 : decode cX1_best 93 = .ok (.istore 4, 2) := dk_54 4 (dk_at dksX1_best_3 22 rfl rfl)
theorem dX1_best_95 : decode cX1_best 95 = .ok (.iload 4, 2) := dk_21 4 (dk_at dksX1_best_4 0 rfl rfl)
theorem dX1_best_97 : decode cX1_best 97 = .ok (.aload_n 3, 1) := dk_45 (dk_at dksX1_best_4 2 rfl rfl)
theorem dX1_best_98 : decode cX1_best 98 = .ok (.invokeinterface 38 1, 5) := by decide +kernel
theorem dX1_best_103 : decode cX1_best 103 = .ok (.if_icmp .ge 41, 3) := dk_162 0 41 (dk_at dksX1_best_4 8 rfl rfl)
theorem dX1_best_106 : decode cX1_best 106 = .ok (.aload_n 0, 1) := dk_42 (dk_at dksX1_best_4 11 rfl rfl)
theorem dX1_best_107 : decode cX1_best 107 = .ok (.iload_n 1, 1) := dk_27 (dk_at dksX1_best_4 12 rfl rfl)
theorem dX1_best_108 : decode cX1_best 108 = .ok (.aload_n 3, 1) := dk_45 (dk_at dksX1_best_4 13 rfl rfl)
theorem dX1_best_109 : decode cX1_best 109 = .ok (.iload 4, 2) := dk_21 4 (dk_at dksX1_best_4 14 rfl rfl)
theorem dX1_best_111 : decode cX1_best 111 = .ok (.invokeinterface 58 2, 5) := by decide +kernel
theorem dX1_best_116 : decode cX1_best 116 = .ok (.checkcast 21, 3) := dk_192 0 21 (dk_at dksX1_best_4 21 rfl rfl)
theorem dX1_best_119 : decode cX1_best 119 = .ok (.aload_n 2, 1) := dk_44 (dk_at dksX1_best_5 0 rfl rfl)
theorem dX1_best_120 : decode cX1_best 120 = .ok (.invokevirtual 117, 3) := dk_182 0 117 (dk_at dksX1_best_5 1 rfl rfl)
theorem dX1_best_123 : decode cX1_best 123 = .ok (.ifCond .eq 15, 3) := dk_153 0 15 (dk_at dksX1_best_5 4 rfl rfl)
theorem dX1_best_126 : decode cX1_best 126 = .ok (.aload_n 3, 1) := dk_45 (dk_at dksX1_best_5 7 rfl rfl)
theorem dX1_best_127 : decode cX1_best 127 = .ok (.iload 4, 2) := dk_21 4 (dk_at dksX1_best_5 8 rfl rfl)
theorem dX1_best_129 : decode cX1_best 129 = .ok (.invokeinterface 72 2, 5) := by decide +kernel
theorem dX1_best_134 : decode cX1_best 134 = .ok (.pop, 1) := dk_87 (dk_at dksX1_best_5 15 rfl rfl)
theorem dX1_best_135 : decode cX1_best 135 = .ok (.goto (-40), 3) := dk_167 255 216 (dk_at dksX1_best_5 16 rfl rfl)
theorem dX1_best_138 : decode cX1_best 138 = .ok (.iinc 4 1, 3) := dk_132 4 1 (dk_at dksX1_best_5 19 rfl rfl)
theorem dX1_best_141 : decode cX1_best 141 = .ok (.goto (-46), 3) := dk_167 255 210 (dk_at dksX1_best_6 0 rfl rfl)
theorem dX1_best_144 : decode cX1_best 144 = .ok (.aload_n 3, 1) := dk_45 (dk_at dksX1_best_6 3 rfl rfl)
theorem dX1_best_145 : decode cX1_best 145 = .ok (.areturn, 1) := dk_176 (dk_at dksX1_best_6 4 rfl rfl)
abbrev cX1_isDominated : ByteArray := prog_2_method_13_code
def yX1_isDominated : MethodName := ⟨RX1, "isDominated", "(ILGameCalculator$Game;Ljava/util/List;)Z"⟩
def dkwX1_isDominated_2 : List UInt8 := [172, 132, 4, 1, 167, 255, 208, 3, 172]
abbrev dktX1_isDominated_2 : List UInt8 := dkwX1_isDominated_2 ++ []
def dkwX1_isDominated_1 : List UInt8 := [165, 0, 25, 42, 27, 44, 45, 21, 4, 185, 0, 58, 2, 0, 192, 0, 21, 182, 0, 95, 153, 0, 5, 4]
abbrev dktX1_isDominated_1 : List UInt8 := dkwX1_isDominated_1 ++ dktX1_isDominated_2
def dkwX1_isDominated_0 : List UInt8 := [3, 54, 4, 21, 4, 45, 185, 0, 38, 1, 0, 162, 0, 43, 45, 21, 4, 185, 0, 58, 2, 0, 44]
abbrev dktX1_isDominated_0 : List UInt8 := dkwX1_isDominated_0 ++ dktX1_isDominated_1
theorem dksX1_isDominated_0 : cX1_isDominated.data.toList.drop 0 = dktX1_isDominated_0 := by decide +kernel
theorem dksX1_isDominated_1 : cX1_isDominated.data.toList.drop 23 = dktX1_isDominated_1 := dk_seg dksX1_isDominated_0 23 rfl rfl
theorem dksX1_isDominated_2 : cX1_isDominated.data.toList.drop 47 = dktX1_isDominated_2 := dk_seg dksX1_isDominated_1 24 rfl rfl
theorem dX1_isDominated_0 : decode cX1_isDominated 0 = .ok (.iconst 0, 1) := dk_3 (dk_at dksX1_isDominated_0 0 rfl rfl)
theorem dX1_isDominated_1 : decode cX1_isDominated 1 = .ok (.istore 4, 2) := dk_54 4 (dk_at dksX1_isDominated_0 1 rfl rfl)
theorem dX1_isDominated_3 : decode cX1_isDominated 3 = .ok (.iload 4, 2) := dk_21 4 (dk_at dksX1_isDominated_0 3 rfl rfl)
theorem dX1_isDominated_5 : decode cX1_isDominated 5 = .ok (.aload_n 3, 1) := dk_45 (dk_at dksX1_isDominated_0 5 rfl rfl)
theorem dX1_isDominated_6 : decode cX1_isDominated 6 = .ok (.invokeinterface 38 1, 5) := by decide +kernel
theorem dX1_isDominated_11 : decode cX1_isDominated 11 = .ok (.if_icmp .ge 43, 3) := dk_162 0 43 (dk_at dksX1_isDominated_0 11 rfl rfl)
theorem dX1_isDominated_14 : decode cX1_isDominated 14 = .ok (.aload_n 3, 1) := dk_45 (dk_at dksX1_isDominated_0 14 rfl rfl)
theorem dX1_isDominated_15 : decode cX1_isDominated 15 = .ok (.iload 4, 2) := dk_21 4 (dk_at dksX1_isDominated_0 15 rfl rfl)
theorem dX1_isDominated_17 : decode cX1_isDominated 17 = .ok (.invokeinterface 58 2, 5) := by decide +kernel
theorem dX1_isDominated_22 : decode cX1_isDominated 22 = .ok (.aload_n 2, 1) := dk_44 (dk_at dksX1_isDominated_0 22 rfl rfl)
theorem dX1_isDominated_23 : decode cX1_isDominated 23 = .ok (.if_acmp .eq 25, 3) := dk_165 0 25 (dk_at dksX1_isDominated_1 0 rfl rfl)
theorem dX1_isDominated_26 : decode cX1_isDominated 26 = .ok (.aload_n 0, 1) := dk_42 (dk_at dksX1_isDominated_1 3 rfl rfl)
theorem dX1_isDominated_27 : decode cX1_isDominated 27 = .ok (.iload_n 1, 1) := dk_27 (dk_at dksX1_isDominated_1 4 rfl rfl)
theorem dX1_isDominated_28 : decode cX1_isDominated 28 = .ok (.aload_n 2, 1) := dk_44 (dk_at dksX1_isDominated_1 5 rfl rfl)
theorem dX1_isDominated_29 : decode cX1_isDominated 29 = .ok (.aload_n 3, 1) := dk_45 (dk_at dksX1_isDominated_1 6 rfl rfl)
theorem dX1_isDominated_30 : decode cX1_isDominated 30 = .ok (.iload 4, 2) := dk_21 4 (dk_at dksX1_isDominated_1 7 rfl rfl)
theorem dX1_isDominated_32 : decode cX1_isDominated 32 = .ok (.invokeinterface 58 2, 5) := by decide +kernel
theorem dX1_isDominated_37 : decode cX1_isDominated 37 = .ok (.checkcast 21, 3) := dk_192 0 21 (dk_at dksX1_isDominated_1 14 rfl rfl)
theorem dX1_isDominated_40 : decode cX1_isDominated 40 = .ok (.invokevirtual 95, 3) := dk_182 0 95 (dk_at dksX1_isDominated_1 17 rfl rfl)
theorem dX1_isDominated_43 : decode cX1_isDominated 43 = .ok (.ifCond .eq 5, 3) := dk_153 0 5 (dk_at dksX1_isDominated_1 20 rfl rfl)
theorem dX1_isDominated_46 : decode cX1_isDominated 46 = .ok (.iconst 1, 1) := dk_4 (dk_at dksX1_isDominated_1 23 rfl rfl)
theorem dX1_isDominated_47 : decode cX1_isDominated 47 = .ok (.ireturn, 1) := dk_172 (dk_at dksX1_isDominated_2 0 rfl rfl)
theorem dX1_isDominated_48 : decode cX1_isDominated 48 = .ok (.iinc 4 1, 3) := dk_132 4 1 (dk_at dksX1_isDominated_2 1 rfl rfl)
theorem dX1_isDominated_51 : decode cX1_isDominated 51 = .ok (.goto (-48), 3) := dk_167 255 208 (dk_at dksX1_isDominated_2 4 rfl rfl)
theorem dX1_isDominated_54 : decode cX1_isDominated 54 = .ok (.iconst 0, 1) := dk_3 (dk_at dksX1_isDominated_2 7 rfl rfl)
theorem dX1_isDominated_55 : decode cX1_isDominated 55 = .ok (.ireturn, 1) := dk_172 (dk_at dksX1_isDominated_2 8 rfl rfl)
abbrev cX1_game : ByteArray := prog_2_method_19_code
def yX1_game : MethodName := ⟨RX1, "game", "(LGameCalculator$Form;)LGameCalculator$Game;"⟩
def dkwX1_game_0 : List UInt8 := [42, 43, 182, 0, 168, 43, 180, 0, 152, 4, 100, 50, 176]
abbrev dktX1_game_0 : List UInt8 := dkwX1_game_0 ++ []
theorem dksX1_game_0 : cX1_game.data.toList.drop 0 = dktX1_game_0 := by decide +kernel
theorem dX1_game_0 : decode cX1_game 0 = .ok (.aload_n 0, 1) := dk_42 (dk_at dksX1_game_0 0 rfl rfl)
theorem dX1_game_1 : decode cX1_game 1 = .ok (.aload_n 1, 1) := dk_43 (dk_at dksX1_game_0 1 rfl rfl)
theorem dX1_game_2 : decode cX1_game 2 = .ok (.invokevirtual 168, 3) := dk_182 0 168 (dk_at dksX1_game_0 2 rfl rfl)
theorem dX1_game_5 : decode cX1_game 5 = .ok (.aload_n 1, 1) := dk_43 (dk_at dksX1_game_0 5 rfl rfl)
theorem dX1_game_6 : decode cX1_game 6 = .ok (.getfield 152, 3) := dk_180 0 152 (dk_at dksX1_game_0 6 rfl rfl)
theorem dX1_game_9 : decode cX1_game 9 = .ok (.iconst 1, 1) := dk_4 (dk_at dksX1_game_0 9 rfl rfl)
theorem dX1_game_10 : decode cX1_game 10 = .ok (.isub, 1) := dk_100 (dk_at dksX1_game_0 10 rfl rfl)
theorem dX1_game_11 : decode cX1_game 11 = .ok (.aaload, 1) := dk_50 (dk_at dksX1_game_0 11 rfl rfl)
theorem dX1_game_12 : decode cX1_game 12 = .ok (.areturn, 1) := dk_176 (dk_at dksX1_game_0 12 rfl rfl)
abbrev cX1_take : ByteArray := prog_2_method_18_code
def yX1_take : MethodName := ⟨RX1, "take", "(LGameCalculator$Form;)[LGameCalculator$Game;"⟩
def dkwX1_take_3 : List UInt8 := [167, 255, 196, 44, 176]
abbrev dktX1_take_3 : List UInt8 := dkwX1_take_3 ++ []
def dkwX1_take_2 : List UInt8 := [25, 4, 25, 5, 182, 0, 140, 83, 42, 25, 4, 182, 0, 132, 42, 25, 5, 182, 0, 132, 132, 3, 1]
abbrev dktX1_take_2 : List UInt8 := dkwX1_take_2 ++ dktX1_take_3
def dkwX1_take_1 : List UInt8 := [29, 46, 182, 0, 161, 58, 4, 42, 44, 43, 180, 0, 165, 29, 46, 182, 0, 161, 58, 5, 44, 29, 42]
abbrev dktX1_take_1 : List UInt8 := dkwX1_take_1 ++ dktX1_take_2
def dkwX1_take_0 : List UInt8 := [43, 180, 0, 152, 189, 0, 21, 77, 3, 62, 29, 43, 180, 0, 152, 162, 0, 58, 42, 44, 43, 180, 0, 157]
abbrev dktX1_take_0 : List UInt8 := dkwX1_take_0 ++ dktX1_take_1
theorem dksX1_take_0 : cX1_take.data.toList.drop 0 = dktX1_take_0 := by decide +kernel
theorem dksX1_take_1 : cX1_take.data.toList.drop 24 = dktX1_take_1 := dk_seg dksX1_take_0 24 rfl rfl
theorem dksX1_take_2 : cX1_take.data.toList.drop 47 = dktX1_take_2 := dk_seg dksX1_take_1 23 rfl rfl
theorem dksX1_take_3 : cX1_take.data.toList.drop 70 = dktX1_take_3 := dk_seg dksX1_take_2 23 rfl rfl
theorem dX1_take_0 : decode cX1_take 0 = .ok (.aload_n 1, 1) := dk_43 (dk_at dksX1_take_0 0 rfl rfl)
theorem dX1_take_1 : decode cX1_take 1 = .ok (.getfield 152, 3) := dk_180 0 152 (dk_at dksX1_take_0 1 rfl rfl)
theorem dX1_take_4 : decode cX1_take 4 = .ok (.anewarray 21, 3) := dk_189 0 21 (dk_at dksX1_take_0 4 rfl rfl)
theorem dX1_take_7 : decode cX1_take 7 = .ok (.astore_n 2, 1) := dk_77 (dk_at dksX1_take_0 7 rfl rfl)
theorem dX1_take_8 : decode cX1_take 8 = .ok (.iconst 0, 1) := dk_3 (dk_at dksX1_take_0 8 rfl rfl)
theorem dX1_take_9 : decode cX1_take 9 = .ok (.istore_n 3, 1) := dk_62 (dk_at dksX1_take_0 9 rfl rfl)
theorem dX1_take_10 : decode cX1_take 10 = .ok (.iload_n 3, 1) := dk_29 (dk_at dksX1_take_0 10 rfl rfl)
theorem dX1_take_11 : decode cX1_take 11 = .ok (.aload_n 1, 1) := dk_43 (dk_at dksX1_take_0 11 rfl rfl)
theorem dX1_take_12 : decode cX1_take 12 = .ok (.getfield 152, 3) := dk_180 0 152 (dk_at dksX1_take_0 12 rfl rfl)
theorem dX1_take_15 : decode cX1_take 15 = .ok (.if_icmp .ge 58, 3) := dk_162 0 58 (dk_at dksX1_take_0 15 rfl rfl)
theorem dX1_take_18 : decode cX1_take 18 = .ok (.aload_n 0, 1) := dk_42 (dk_at dksX1_take_0 18 rfl rfl)
theorem dX1_take_19 : decode cX1_take 19 = .ok (.aload_n 2, 1) := dk_44 (dk_at dksX1_take_0 19 rfl rfl)
theorem dX1_take_20 : decode cX1_take 20 = .ok (.aload_n 1, 1) := dk_43 (dk_at dksX1_take_0 20 rfl rfl)
theorem dX1_take_21 : decode cX1_take 21 = .ok (.getfield 157, 3) := dk_180 0 157 (dk_at dksX1_take_0 21 rfl rfl)
theorem dX1_take_24 : decode cX1_take 24 = .ok (.iload_n 3, 1) := dk_29 (dk_at dksX1_take_1 0 rfl rfl)
theorem dX1_take_25 : decode cX1_take 25 = .ok (.iaload, 1) := dk_46 (dk_at dksX1_take_1 1 rfl rfl)
theorem dX1_take_26 : decode cX1_take 26 = .ok (.invokevirtual 161, 3) := dk_182 0 161 (dk_at dksX1_take_1 2 rfl rfl)
theorem dX1_take_29 : decode cX1_take 29 = .ok (.astore 4, 2) := dk_58 4 (dk_at dksX1_take_1 5 rfl rfl)
theorem dX1_take_31 : decode cX1_take 31 = .ok (.aload_n 0, 1) := dk_42 (dk_at dksX1_take_1 7 rfl rfl)
theorem dX1_take_32 : decode cX1_take 32 = .ok (.aload_n 2, 1) := dk_44 (dk_at dksX1_take_1 8 rfl rfl)
theorem dX1_take_33 : decode cX1_take 33 = .ok (.aload_n 1, 1) := dk_43 (dk_at dksX1_take_1 9 rfl rfl)
theorem dX1_take_34 : decode cX1_take 34 = .ok (.getfield 165, 3) := dk_180 0 165 (dk_at dksX1_take_1 10 rfl rfl)
theorem dX1_take_37 : decode cX1_take 37 = .ok (.iload_n 3, 1) := dk_29 (dk_at dksX1_take_1 13 rfl rfl)
theorem dX1_take_38 : decode cX1_take 38 = .ok (.iaload, 1) := dk_46 (dk_at dksX1_take_1 14 rfl rfl)
theorem dX1_take_39 : decode cX1_take 39 = .ok (.invokevirtual 161, 3) := dk_182 0 161 (dk_at dksX1_take_1 15 rfl rfl)
theorem dX1_take_42 : decode cX1_take 42 = .ok (.astore 5, 2) := dk_58 5 (dk_at dksX1_take_1 18 rfl rfl)
theorem dX1_take_44 : decode cX1_take 44 = .ok (.aload_n 2, 1) := dk_44 (dk_at dksX1_take_1 20 rfl rfl)
theorem dX1_take_45 : decode cX1_take 45 = .ok (.iload_n 3, 1) := dk_29 (dk_at dksX1_take_1 21 rfl rfl)
theorem dX1_take_46 : decode cX1_take 46 = .ok (.aload_n 0, 1) := dk_42 (dk_at dksX1_take_1 22 rfl rfl)
theorem dX1_take_47 : decode cX1_take 47 = .ok (.aload 4, 2) := dk_25 4 (dk_at dksX1_take_2 0 rfl rfl)
theorem dX1_take_49 : decode cX1_take 49 = .ok (.aload 5, 2) := dk_25 5 (dk_at dksX1_take_2 2 rfl rfl)
theorem dX1_take_51 : decode cX1_take 51 = .ok (.invokevirtual 140, 3) := dk_182 0 140 (dk_at dksX1_take_2 4 rfl rfl)
theorem dX1_take_54 : decode cX1_take 54 = .ok (.aastore, 1) := dk_83 (dk_at dksX1_take_2 7 rfl rfl)
theorem dX1_take_55 : decode cX1_take 55 = .ok (.aload_n 0, 1) := dk_42 (dk_at dksX1_take_2 8 rfl rfl)
theorem dX1_take_56 : decode cX1_take 56 = .ok (.aload 4, 2) := dk_25 4 (dk_at dksX1_take_2 9 rfl rfl)
theorem dX1_take_58 : decode cX1_take 58 = .ok (.invokevirtual 132, 3) := dk_182 0 132 (dk_at dksX1_take_2 11 rfl rfl)
theorem dX1_take_61 : decode cX1_take 61 = .ok (.aload_n 0, 1) := dk_42 (dk_at dksX1_take_2 14 rfl rfl)
theorem dX1_take_62 : decode cX1_take 62 = .ok (.aload 5, 2) := dk_25 5 (dk_at dksX1_take_2 15 rfl rfl)
theorem dX1_take_64 : decode cX1_take 64 = .ok (.invokevirtual 132, 3) := dk_182 0 132 (dk_at dksX1_take_2 17 rfl rfl)
theorem dX1_take_67 : decode cX1_take 67 = .ok (.iinc 3 1, 3) := dk_132 3 1 (dk_at dksX1_take_2 20 rfl rfl)
theorem dX1_take_70 : decode cX1_take 70 = .ok (.goto (-60), 3) := dk_167 255 196 (dk_at dksX1_take_3 0 rfl rfl)
theorem dX1_take_73 : decode cX1_take 73 = .ok (.aload_n 2, 1) := dk_44 (dk_at dksX1_take_3 3 rfl rfl)
theorem dX1_take_74 : decode cX1_take 74 = .ok (.areturn, 1) := dk_176 (dk_at dksX1_take_3 4 rfl rfl)
abbrev cX1_listOf : ByteArray := prog_2_method_17_code
def yX1_listOf : MethodName := ⟨RX1, "listOf", "([LGameCalculator$Game;I)Ljava/util/List;"⟩
def dkwX1_listOf_1 : List UInt8 := [185, 0, 75, 2, 0, 87, 21, 4, 21, 4, 4, 100, 126, 54, 4, 167, 255, 228, 45, 176]
abbrev dktX1_listOf_1 : List UInt8 := dkwX1_listOf_1 ++ []
def dkwX1_listOf_0 : List UInt8 := [42, 182, 0, 99, 78, 28, 54, 4, 21, 4, 153, 0, 29, 45, 43, 21, 4, 184, 0, 146, 50]
abbrev dktX1_listOf_0 : List UInt8 := dkwX1_listOf_0 ++ dktX1_listOf_1
theorem dksX1_listOf_0 : cX1_listOf.data.toList.drop 0 = dktX1_listOf_0 := by decide +kernel
theorem dksX1_listOf_1 : cX1_listOf.data.toList.drop 21 = dktX1_listOf_1 := dk_seg dksX1_listOf_0 21 rfl rfl
theorem dX1_listOf_0 : decode cX1_listOf 0 = .ok (.aload_n 0, 1) := dk_42 (dk_at dksX1_listOf_0 0 rfl rfl)
theorem dX1_listOf_1 : decode cX1_listOf 1 = .ok (.invokevirtual 99, 3) := dk_182 0 99 (dk_at dksX1_listOf_0 1 rfl rfl)
theorem dX1_listOf_4 : decode cX1_listOf 4 = .ok (.astore_n 3, 1) := dk_78 (dk_at dksX1_listOf_0 4 rfl rfl)
theorem dX1_listOf_5 : decode cX1_listOf 5 = .ok (.iload_n 2, 1) := dk_28 (dk_at dksX1_listOf_0 5 rfl rfl)
theorem dX1_listOf_6 : decode cX1_listOf 6 = .ok (.istore 4, 2) := dk_54 4 (dk_at dksX1_listOf_0 6 rfl rfl)
theorem dX1_listOf_8 : decode cX1_listOf 8 = .ok (.iload 4, 2) := dk_21 4 (dk_at dksX1_listOf_0 8 rfl rfl)
theorem dX1_listOf_10 : decode cX1_listOf 10 = .ok (.ifCond .eq 29, 3) := dk_153 0 29 (dk_at dksX1_listOf_0 10 rfl rfl)
theorem dX1_listOf_13 : decode cX1_listOf 13 = .ok (.aload_n 3, 1) := dk_45 (dk_at dksX1_listOf_0 13 rfl rfl)
theorem dX1_listOf_14 : decode cX1_listOf 14 = .ok (.aload_n 1, 1) := dk_43 (dk_at dksX1_listOf_0 14 rfl rfl)
theorem dX1_listOf_15 : decode cX1_listOf 15 = .ok (.iload 4, 2) := dk_21 4 (dk_at dksX1_listOf_0 15 rfl rfl)
theorem dX1_listOf_17 : decode cX1_listOf 17 = .ok (.invokestatic 146, 3) := dk_184 0 146 (dk_at dksX1_listOf_0 17 rfl rfl)
theorem dX1_listOf_20 : decode cX1_listOf 20 = .ok (.aaload, 1) := dk_50 (dk_at dksX1_listOf_0 20 rfl rfl)
theorem dX1_listOf_21 : decode cX1_listOf 21 = .ok (.invokeinterface 75 2, 5) := by decide +kernel
theorem dX1_listOf_26 : decode cX1_listOf 26 = .ok (.pop, 1) := dk_87 (dk_at dksX1_listOf_1 5 rfl rfl)
theorem dX1_listOf_27 : decode cX1_listOf 27 = .ok (.iload 4, 2) := dk_21 4 (dk_at dksX1_listOf_1 6 rfl rfl)
theorem dX1_listOf_29 : decode cX1_listOf 29 = .ok (.iload 4, 2) := dk_21 4 (dk_at dksX1_listOf_1 8 rfl rfl)
theorem dX1_listOf_31 : decode cX1_listOf 31 = .ok (.iconst 1, 1) := dk_4 (dk_at dksX1_listOf_1 10 rfl rfl)
theorem dX1_listOf_32 : decode cX1_listOf 32 = .ok (.isub, 1) := dk_100 (dk_at dksX1_listOf_1 11 rfl rfl)
theorem dX1_listOf_33 : decode cX1_listOf 33 = .ok (.iand, 1) := dk_126 (dk_at dksX1_listOf_1 12 rfl rfl)
theorem dX1_listOf_34 : decode cX1_listOf 34 = .ok (.istore 4, 2) := dk_54 4 (dk_at dksX1_listOf_1 13 rfl rfl)
theorem dX1_listOf_36 : decode cX1_listOf 36 = .ok (.goto (-28), 3) := dk_167 255 228 (dk_at dksX1_listOf_1 15 rfl rfl)
theorem dX1_listOf_39 : decode cX1_listOf 39 = .ok (.aload_n 3, 1) := dk_45 (dk_at dksX1_listOf_1 18 rfl rfl)
theorem dX1_listOf_40 : decode cX1_listOf 40 = .ok (.areturn, 1) := dk_176 (dk_at dksX1_listOf_1 19 rfl rfl)
abbrev cX1_makeOf : ByteArray := prog_2_method_16_code
def yX1_makeOf : MethodName := ⟨RX1, "makeOf", "(Ljava/util/List;Ljava/util/List;)LGameCalculator$Game;"⟩
def dkwX1_makeOf_0 : List UInt8 := [42, 43, 44, 182, 0, 143, 78, 42, 43, 182, 0, 132, 42, 44, 182, 0, 132, 45, 176]
abbrev dktX1_makeOf_0 : List UInt8 := dkwX1_makeOf_0 ++ []
theorem dksX1_makeOf_0 : cX1_makeOf.data.toList.drop 0 = dktX1_makeOf_0 := by decide +kernel
theorem dX1_makeOf_0 : decode cX1_makeOf 0 = .ok (.aload_n 0, 1) := dk_42 (dk_at dksX1_makeOf_0 0 rfl rfl)
theorem dX1_makeOf_1 : decode cX1_makeOf 1 = .ok (.aload_n 1, 1) := dk_43 (dk_at dksX1_makeOf_0 1 rfl rfl)
theorem dX1_makeOf_2 : decode cX1_makeOf 2 = .ok (.aload_n 2, 1) := dk_44 (dk_at dksX1_makeOf_0 2 rfl rfl)
theorem dX1_makeOf_3 : decode cX1_makeOf 3 = .ok (.invokevirtual 143, 3) := dk_182 0 143 (dk_at dksX1_makeOf_0 3 rfl rfl)
theorem dX1_makeOf_6 : decode cX1_makeOf 6 = .ok (.astore_n 3, 1) := dk_78 (dk_at dksX1_makeOf_0 6 rfl rfl)
theorem dX1_makeOf_7 : decode cX1_makeOf 7 = .ok (.aload_n 0, 1) := dk_42 (dk_at dksX1_makeOf_0 7 rfl rfl)
theorem dX1_makeOf_8 : decode cX1_makeOf 8 = .ok (.aload_n 1, 1) := dk_43 (dk_at dksX1_makeOf_0 8 rfl rfl)
theorem dX1_makeOf_9 : decode cX1_makeOf 9 = .ok (.invokevirtual 132, 3) := dk_182 0 132 (dk_at dksX1_makeOf_0 9 rfl rfl)
theorem dX1_makeOf_12 : decode cX1_makeOf 12 = .ok (.aload_n 0, 1) := dk_42 (dk_at dksX1_makeOf_0 12 rfl rfl)
theorem dX1_makeOf_13 : decode cX1_makeOf 13 = .ok (.aload_n 2, 1) := dk_44 (dk_at dksX1_makeOf_0 13 rfl rfl)
theorem dX1_makeOf_14 : decode cX1_makeOf 14 = .ok (.invokevirtual 132, 3) := dk_182 0 132 (dk_at dksX1_makeOf_0 14 rfl rfl)
theorem dX1_makeOf_17 : decode cX1_makeOf 17 = .ok (.aload_n 3, 1) := dk_45 (dk_at dksX1_makeOf_0 17 rfl rfl)
theorem dX1_makeOf_18 : decode cX1_makeOf 18 = .ok (.areturn, 1) := dk_176 (dk_at dksX1_makeOf_0 18 rfl rfl)
theorem q133 : (Jvm.Cond.initialized "GameCalculator$Arena") ∈ lw_all := lw_g (lw_at lw_m1 2 rfl) rfl
theorem q193 : (Jvm.Cond.instantiable "GameCalculator$Arena" (5 : Nat)) ∈ lw_all := lw_g (lw_at lw_m1 62 rfl) rfl
theorem q195 : (Jvm.Cond.instanceMethod ({ cls := "GameCalculator$Arena", name := "<init>", desc := "()V" } : Jvm.MethodName)) ∈ lw_all := lw_g (lw_at lw_m1 64 rfl) rfl
theorem q196 : (Jvm.Cond.code ({ cls := "GameCalculator$Arena", name := "<init>", desc := "()V" } : Jvm.MethodName) prog_2_method_1_code (1 : Nat) (Option.none : Option Jvm.ClassFile.FieldType)) ∈ lw_all := lw_g (lw_at lw_m1 65 rfl) rfl
theorem q197 : (Jvm.Cond.methodLink "GameCalculator$Arena" (3 : Nat) ({ cls := "java/lang/Object", name := "<init>", desc := "()V" } : Jvm.MethodName)) ∈ lw_all := lw_g (lw_at lw_m1 66 rfl) rfl
theorem q198 : (Jvm.Cond.classLink "GameCalculator$Arena" (9 : Nat) "java/util/ArrayList") ∈ lw_all := lw_g (lw_at lw_m1 67 rfl) rfl
theorem q200 : (Jvm.Cond.methodLink "GameCalculator$Arena" (11 : Nat) ({ cls := "java/util/ArrayList", name := "<init>", desc := "()V" } : Jvm.MethodName)) ∈ lw_all := lw_g (lw_at lw_m1 69 rfl) rfl
theorem q231 : (Jvm.Cond.classLink "GameCalculator$Arena" (21 : Nat) "GameCalculator$Game") ∈ lw_all := lw_g (lw_at lw_m1 100 rfl) rfl
theorem q233 : (Jvm.Cond.methodLink "GameCalculator$Arena" (23 : Nat) ({ cls := "GameCalculator$Game", name := "<init>", desc := "(I)V" } : Jvm.MethodName)) ∈ lw_all := lw_g (lw_at lw_m1 102 rfl) rfl
theorem q240 : (Jvm.Cond.fieldLinkNest "GameCalculator$Arena" (47 : Nat) "GameCalculator$Game" "id" "I" "GameCalculator") ∈ lw_tbl := lw_at lw_m1 109 rfl
theorem q242 : (Jvm.Cond.fieldLinkNest "GameCalculator$Arena" (55 : Nat) "GameCalculator$Game" "left" "Ljava/util/List;" "GameCalculator") ∈ lw_tbl := lw_at lw_m1 111 rfl
theorem q245 : (Jvm.Cond.fieldLinkNest "GameCalculator$Arena" (65 : Nat) "GameCalculator$Game" "right" "Ljava/util/List;" "GameCalculator") ∈ lw_tbl := lw_at lw_m1 114 rfl
theorem q258 : (Jvm.Cond.constant "GameCalculator$Arena" (33 : Nat) (409600 : Int32)) ∈ lw_all := lw_g (lw_at lw_m1 127 rfl) rfl
theorem q259 : (Jvm.Cond.fieldLink "GameCalculator$Arena" (12 : Nat) "GameCalculator$Arena" "games" "Ljava/util/List;") ∈ lw_all := lw_g (lw_at lw_m1 128 rfl) rfl
theorem q260 : (Jvm.Cond.fieldLink "GameCalculator$Arena" (18 : Nat) "GameCalculator$Arena" "kept" "Ljava/util/List;") ∈ lw_all := lw_g (lw_at lw_m1 129 rfl) rfl
theorem q261 : (Jvm.Cond.fieldLink "GameCalculator$Arena" (26 : Nat) "GameCalculator$Arena" "asked" "LGameCalculator$Game;") ∈ lw_all := lw_g (lw_at lw_m1 130 rfl) rfl
theorem q262 : (Jvm.Cond.fieldLink "GameCalculator$Arena" (30 : Nat) "GameCalculator$Arena" "spare" "Ljava/util/List;") ∈ lw_all := lw_g (lw_at lw_m1 131 rfl) rfl
theorem q263 : (Jvm.Cond.fieldLink "GameCalculator$Arena" (34 : Nat) "GameCalculator$Arena" "known" "[B") ∈ lw_all := lw_g (lw_at lw_m1 132 rfl) rfl
theorem q264 : (Jvm.Cond.laysFinal "GameCalculator$Arena" "GameCalculator$Arena" "games" "Ljava/util/List;") ∈ lw_all := lw_g (lw_at lw_m1 133 rfl) rfl
theorem q265 : (Jvm.Cond.soleField "GameCalculator$Arena" "games") ∈ lw_all := lw_g (lw_at lw_m1 134 rfl) rfl
theorem q266 : (Jvm.Cond.laysFinal "GameCalculator$Arena" "GameCalculator$Arena" "kept" "Ljava/util/List;") ∈ lw_all := lw_g (lw_at lw_m1 135 rfl) rfl
theorem q267 : (Jvm.Cond.soleField "GameCalculator$Arena" "kept") ∈ lw_all := lw_g (lw_at lw_m1 136 rfl) rfl
theorem q268 : (Jvm.Cond.laysFinal "GameCalculator$Arena" "GameCalculator$Arena" "asked" "LGameCalculator$Game;") ∈ lw_all := lw_g (lw_at lw_m1 137 rfl) rfl
theorem q269 : (Jvm.Cond.soleField "GameCalculator$Arena" "asked") ∈ lw_all := lw_g (lw_at lw_m1 138 rfl) rfl
theorem q270 : (Jvm.Cond.laysFinal "GameCalculator$Arena" "GameCalculator$Arena" "spare" "Ljava/util/List;") ∈ lw_all := lw_g (lw_at lw_m1 139 rfl) rfl
theorem q271 : (Jvm.Cond.soleField "GameCalculator$Arena" "spare") ∈ lw_all := lw_g (lw_at lw_m1 140 rfl) rfl
theorem q272 : (Jvm.Cond.laysFinal "GameCalculator$Arena" "GameCalculator$Arena" "known" "[B") ∈ lw_all := lw_g (lw_at lw_m1 141 rfl) rfl
theorem q273 : (Jvm.Cond.soleField "GameCalculator$Arena" "known") ∈ lw_all := lw_g (lw_at lw_m1 142 rfl) rfl
theorem q274 : (Jvm.Cond.superclass "GameCalculator$Arena" "java/lang/Object") ∈ lw_all := lw_g (lw_at lw_m1 143 rfl) rfl
theorem q385 : (Jvm.Cond.fieldLinkNest "GameCalculator$Arena" (152 : Nat) "GameCalculator$Form" "count" "I" "GameCalculator") ∈ lw_tbl := lw_at lw_m2 14 rfl
theorem q389 : (Jvm.Cond.fieldLinkNest "GameCalculator$Arena" (157 : Nat) "GameCalculator$Form" "lefts" "[I" "GameCalculator") ∈ lw_tbl := lw_at lw_m2 18 rfl
theorem q393 : (Jvm.Cond.fieldLinkNest "GameCalculator$Arena" (165 : Nat) "GameCalculator$Form" "rights" "[I" "GameCalculator") ∈ lw_tbl := lw_at lw_m2 22 rfl
theorem q612 : (Jvm.Cond.instanceMethod ({ cls := "GameCalculator$Arena", name := "clear", desc := "()V" } : Jvm.MethodName)) ∈ lw_all := lw_g (lw_at lw_m3 1 rfl) rfl
theorem q613 : (Jvm.Cond.selects "GameCalculator$Arena" ({ cls := "GameCalculator$Arena", name := "clear", desc := "()V" } : Jvm.MethodName) ({ cls := "GameCalculator$Arena", name := "clear", desc := "()V" } : Jvm.MethodName)) ∈ lw_all := lw_g (lw_at lw_m3 2 rfl) rfl
theorem q614 : (Jvm.Cond.code ({ cls := "GameCalculator$Arena", name := "clear", desc := "()V" } : Jvm.MethodName) prog_2_method_2_code (3 : Nat) (Option.none : Option Jvm.ClassFile.FieldType)) ∈ lw_all := lw_g (lw_at lw_m3 3 rfl) rfl
theorem q615 : (Jvm.Cond.interfaceEntry "GameCalculator$Arena" (38 : Nat)) ∈ lw_tbl := lw_at lw_m3 4 rfl
theorem q616 : (Jvm.Cond.methodLink "GameCalculator$Arena" (38 : Nat) ({ cls := "java/util/List", name := "size", desc := "()I" } : Jvm.MethodName)) ∈ lw_all := lw_g (lw_at lw_m3 5 rfl) rfl
theorem q637 : (Jvm.Cond.interfaceEntry "GameCalculator$Arena" (44 : Nat)) ∈ lw_tbl := lw_at lw_m3 26 rfl
theorem q638 : (Jvm.Cond.methodLink "GameCalculator$Arena" (44 : Nat) ({ cls := "java/util/List", name := "clear", desc := "()V" } : Jvm.MethodName)) ∈ lw_all := lw_g (lw_at lw_m3 27 rfl) rfl
theorem q657 : (Jvm.Cond.instanceMethod ({ cls := "GameCalculator$Arena", name := "list", desc := "()Ljava/util/List;" } : Jvm.MethodName)) ∈ lw_all := lw_g (lw_at lw_m3 46 rfl) rfl
theorem q658 : (Jvm.Cond.selects "GameCalculator$Arena" ({ cls := "GameCalculator$Arena", name := "list", desc := "()Ljava/util/List;" } : Jvm.MethodName) ({ cls := "GameCalculator$Arena", name := "list", desc := "()Ljava/util/List;" } : Jvm.MethodName)) ∈ lw_all := lw_g (lw_at lw_m3 47 rfl) rfl
theorem q659 : (Jvm.Cond.code ({ cls := "GameCalculator$Arena", name := "list", desc := "()Ljava/util/List;" } : Jvm.MethodName) prog_2_method_5_code (1 : Nat) (Option.some (Jvm.ClassFile.FieldType.object "java/util/List"))) ∈ lw_all := lw_g (lw_at lw_m3 48 rfl) rfl
theorem q660 : (Jvm.Cond.interfaceEntry "GameCalculator$Arena" (68 : Nat)) ∈ lw_tbl := lw_at lw_m3 49 rfl
theorem q661 : (Jvm.Cond.methodLink "GameCalculator$Arena" (68 : Nat) ({ cls := "java/util/List", name := "isEmpty", desc := "()Z" } : Jvm.MethodName)) ∈ lw_all := lw_g (lw_at lw_m3 50 rfl) rfl
theorem q691 : (Jvm.Cond.interfaceEntry "GameCalculator$Arena" (72 : Nat)) ∈ lw_tbl := lw_at lw_m3 80 rfl
theorem q692 : (Jvm.Cond.methodLink "GameCalculator$Arena" (72 : Nat) ({ cls := "java/util/List", name := "remove", desc := "(I)Ljava/lang/Object;" } : Jvm.MethodName)) ∈ lw_all := lw_g (lw_at lw_m3 81 rfl) rfl
theorem q737 : (Jvm.Cond.classLink "GameCalculator$Arena" (39 : Nat) "java/util/List") ∈ lw_all := lw_g (lw_at lw_m3 126 rfl) rfl
theorem q744 : (Jvm.Cond.privateMethod ({ cls := "GameCalculator$Arena", name := "intern", desc := "(Ljava/util/List;Ljava/util/List;)LGameCalculator$Game;" } : Jvm.MethodName)) ∈ lw_tbl := lw_at lw_m3 133 rfl
theorem q745 : (Jvm.Cond.instanceMethod ({ cls := "GameCalculator$Arena", name := "intern", desc := "(Ljava/util/List;Ljava/util/List;)LGameCalculator$Game;" } : Jvm.MethodName)) ∈ lw_all := lw_g (lw_at lw_m3 134 rfl) rfl
theorem q746 : (Jvm.Cond.code ({ cls := "GameCalculator$Arena", name := "intern", desc := "(Ljava/util/List;Ljava/util/List;)LGameCalculator$Game;" } : Jvm.MethodName) prog_2_method_7_code (4 : Nat) (Option.some (Jvm.ClassFile.FieldType.object "GameCalculator$Game"))) ∈ lw_all := lw_g (lw_at lw_m3 135 rfl) rfl
theorem q747 : (Jvm.Cond.interfaceEntry "GameCalculator$Arena" (58 : Nat)) ∈ lw_tbl := lw_at lw_m3 136 rfl
theorem q748 : (Jvm.Cond.methodLink "GameCalculator$Arena" (58 : Nat) ({ cls := "java/util/List", name := "get", desc := "(I)Ljava/lang/Object;" } : Jvm.MethodName)) ∈ lw_all := lw_g (lw_at lw_m3 137 rfl) rfl
theorem q770 : (Jvm.Cond.methodLink "GameCalculator$Arena" (79 : Nat) ({ cls := "GameCalculator$Game", name := "hasOptions", desc := "(Ljava/util/List;Ljava/util/List;)Z" } : Jvm.MethodName)) ∈ lw_all := lw_g (lw_at lw_m3 159 rfl) rfl
theorem q781 : (Jvm.Cond.interfaceEntry "GameCalculator$Arena" (75 : Nat)) ∈ lw_tbl := lw_at lw_m3 170 rfl
theorem q782 : (Jvm.Cond.methodLink "GameCalculator$Arena" (75 : Nat) ({ cls := "java/util/List", name := "add", desc := "(Ljava/lang/Object;)Z" } : Jvm.MethodName)) ∈ lw_all := lw_g (lw_at lw_m3 171 rfl) rfl
theorem q817 : (Jvm.Cond.selects "GameCalculator$Arena" ({ cls := "java/lang/Object", name := "getClass", desc := "()Ljava/lang/Class;" } : Jvm.MethodName) ({ cls := "java/lang/Object", name := "getClass", desc := "()Ljava/lang/Class;" } : Jvm.MethodName)) ∈ lw_all := lw_g (lw_at lw_m3 206 rfl) rfl
theorem q890 : (Jvm.Cond.methodLink "GameCalculator$Arena" (83 : Nat) ({ cls := "GameCalculator$Game", name := "fill", desc := "(Ljava/util/List;Ljava/util/List;)V" } : Jvm.MethodName)) ∈ lw_all := lw_g (lw_at lw_m4 39 rfl) rfl
theorem q915 : (Jvm.Cond.instanceMethod ({ cls := "GameCalculator$Arena", name := "giveBack", desc := "(Ljava/util/List;)V" } : Jvm.MethodName)) ∈ lw_all := lw_g (lw_at lw_m4 64 rfl) rfl
theorem q916 : (Jvm.Cond.selects "GameCalculator$Arena" ({ cls := "GameCalculator$Arena", name := "giveBack", desc := "(Ljava/util/List;)V" } : Jvm.MethodName) ({ cls := "GameCalculator$Arena", name := "giveBack", desc := "(Ljava/util/List;)V" } : Jvm.MethodName)) ∈ lw_all := lw_g (lw_at lw_m4 65 rfl) rfl
theorem q917 : (Jvm.Cond.code ({ cls := "GameCalculator$Arena", name := "giveBack", desc := "(Ljava/util/List;)V" } : Jvm.MethodName) prog_2_method_6_code (2 : Nat) (Option.none : Option Jvm.ClassFile.FieldType)) ∈ lw_all := lw_g (lw_at lw_m4 66 rfl) rfl
theorem q919 : (Jvm.Cond.instanceMethod ({ cls := "GameCalculator$Arena", name := "form", desc := "(LGameCalculator$Game;)LGameCalculator$Form;" } : Jvm.MethodName)) ∈ lw_all := lw_g (lw_at lw_m4 68 rfl) rfl
theorem q920 : (Jvm.Cond.selects "GameCalculator$Arena" ({ cls := "GameCalculator$Arena", name := "form", desc := "(LGameCalculator$Game;)LGameCalculator$Form;" } : Jvm.MethodName) ({ cls := "GameCalculator$Arena", name := "form", desc := "(LGameCalculator$Game;)LGameCalculator$Form;" } : Jvm.MethodName)) ∈ lw_all := lw_g (lw_at lw_m4 69 rfl) rfl
theorem q921 : (Jvm.Cond.code ({ cls := "GameCalculator$Arena", name := "form", desc := "(LGameCalculator$Game;)LGameCalculator$Form;" } : Jvm.MethodName) prog_2_method_21_code (6 : Nat) (Option.some (Jvm.ClassFile.FieldType.object "GameCalculator$Form"))) ∈ lw_all := lw_g (lw_at lw_m4 70 rfl) rfl
theorem q922 : (Jvm.Cond.classLink "GameCalculator$Arena" (173 : Nat) "java/util/BitSet") ∈ lw_all := lw_g (lw_at lw_m4 71 rfl) rfl
theorem q923 : (Jvm.Cond.methodLink "GameCalculator$Arena" (184 : Nat) ({ cls := "java/util/BitSet", name := "<init>", desc := "()V" } : Jvm.MethodName)) ∈ lw_all := lw_g (lw_at lw_m4 72 rfl) rfl
theorem q924 : (Jvm.Cond.methodLink "GameCalculator$Arena" (180 : Nat) ({ cls := "GameCalculator$Arena", name := "reach", desc := "(LGameCalculator$Game;Ljava/util/BitSet;)V" } : Jvm.MethodName)) ∈ lw_all := lw_g (lw_at lw_m4 73 rfl) rfl
theorem q925 : (Jvm.Cond.privateMethod ({ cls := "GameCalculator$Arena", name := "reach", desc := "(LGameCalculator$Game;Ljava/util/BitSet;)V" } : Jvm.MethodName)) ∈ lw_tbl := lw_at lw_m4 74 rfl
theorem q926 : (Jvm.Cond.instanceMethod ({ cls := "GameCalculator$Arena", name := "reach", desc := "(LGameCalculator$Game;Ljava/util/BitSet;)V" } : Jvm.MethodName)) ∈ lw_all := lw_g (lw_at lw_m4 75 rfl) rfl
theorem q927 : (Jvm.Cond.code ({ cls := "GameCalculator$Arena", name := "reach", desc := "(LGameCalculator$Game;Ljava/util/BitSet;)V" } : Jvm.MethodName) prog_2_method_20_code (6 : Nat) (Option.none : Option Jvm.ClassFile.FieldType)) ∈ lw_all := lw_g (lw_at lw_m4 76 rfl) rfl
theorem q928 : (Jvm.Cond.methodLink "GameCalculator$Arena" (172 : Nat) ({ cls := "java/util/BitSet", name := "get", desc := "(I)Z" } : Jvm.MethodName)) ∈ lw_all := lw_g (lw_at lw_m4 77 rfl) rfl
theorem q929 : (Jvm.Cond.methodLink "GameCalculator$Arena" (177 : Nat) ({ cls := "java/util/BitSet", name := "set", desc := "(I)V" } : Jvm.MethodName)) ∈ lw_all := lw_g (lw_at lw_m4 78 rfl) rfl
theorem q930 : (Jvm.Cond.methodLink "GameCalculator$Arena" (91 : Nat) ({ cls := "GameCalculator$Game", name := "options", desc := "(I)Ljava/util/List;" } : Jvm.MethodName)) ∈ lw_all := lw_g (lw_at lw_m4 79 rfl) rfl
theorem q934 : (Jvm.Cond.methodLink "GameCalculator$Arena" (185 : Nat) ({ cls := "java/util/BitSet", name := "cardinality", desc := "()I" } : Jvm.MethodName)) ∈ lw_all := lw_g (lw_at lw_m4 83 rfl) rfl
theorem q944 : (Jvm.Cond.classLink "GameCalculator$Arena" (188 : Nat) "GameCalculator$LimitException") ∈ lw_all := lw_g (lw_at lw_m4 93 rfl) rfl
theorem q945 : (Jvm.Cond.methodLink "GameCalculator$Arena" (190 : Nat) ({ cls := "GameCalculator$LimitException", name := "<init>", desc := "()V" } : Jvm.MethodName)) ∈ lw_all := lw_g (lw_at lw_m4 94 rfl) rfl
theorem q946 : (Jvm.Cond.methodLink "GameCalculator$Arena" (99 : Nat) ({ cls := "GameCalculator$Arena", name := "list", desc := "()Ljava/util/List;" } : Jvm.MethodName)) ∈ lw_all := lw_g (lw_at lw_m4 95 rfl) rfl
theorem q947 : (Jvm.Cond.methodLink "GameCalculator$Arena" (191 : Nat) ({ cls := "java/util/BitSet", name := "nextSetBit", desc := "(I)I" } : Jvm.MethodName)) ∈ lw_all := lw_g (lw_at lw_m4 96 rfl) rfl
theorem q958 : (Jvm.Cond.methodLink "GameCalculator$Arena" (110 : Nat) ({ cls := "GameCalculator$Game", name := "compareTo", desc := "(LGameCalculator$Game;)I" } : Jvm.MethodName)) ∈ lw_all := lw_g (lw_at lw_m4 107 rfl) rfl
theorem q967 : (Jvm.Cond.interfaceEntry "GameCalculator$Arena" (114 : Nat)) ∈ lw_tbl := lw_at lw_m4 116 rfl
theorem q968 : (Jvm.Cond.methodLink "GameCalculator$Arena" (114 : Nat) ({ cls := "java/util/List", name := "add", desc := "(ILjava/lang/Object;)V" } : Jvm.MethodName)) ∈ lw_all := lw_g (lw_at lw_m4 117 rfl) rfl
theorem q1002 : (Jvm.Cond.classLink "GameCalculator$Arena" (153 : Nat) "GameCalculator$Form") ∈ lw_all := lw_g (lw_at lw_m4 151 rfl) rfl
theorem q1003 : (Jvm.Cond.methodLink "GameCalculator$Arena" (194 : Nat) ({ cls := "GameCalculator$Form", name := "<init>", desc := "(I)V" } : Jvm.MethodName)) ∈ lw_all := lw_g (lw_at lw_m4 152 rfl) rfl
theorem q1004 : (Jvm.Cond.methodLink "GameCalculator$Arena" (195 : Nat) ({ cls := "GameCalculator$Arena", name := "setOf", desc := "(Ljava/util/List;Ljava/util/List;)I" } : Jvm.MethodName)) ∈ lw_all := lw_g (lw_at lw_m4 153 rfl) rfl
theorem q1005 : (Jvm.Cond.static ({ cls := "GameCalculator$Arena", name := "setOf", desc := "(Ljava/util/List;Ljava/util/List;)I" } : Jvm.MethodName)) ∈ lw_all := lw_g (lw_at lw_m4 154 rfl) rfl
theorem q1006 : (Jvm.Cond.code ({ cls := "GameCalculator$Arena", name := "setOf", desc := "(Ljava/util/List;Ljava/util/List;)I" } : Jvm.MethodName) prog_2_method_22_code (5 : Nat) (Option.some Jvm.ClassFile.FieldType.int)) ∈ lw_all := lw_g (lw_at lw_m4 155 rfl) rfl
theorem q1007 : (Jvm.Cond.methodLink "GameCalculator$Arena" (132 : Nat) ({ cls := "GameCalculator$Arena", name := "giveBack", desc := "(Ljava/util/List;)V" } : Jvm.MethodName)) ∈ lw_all := lw_g (lw_at lw_m4 156 rfl) rfl
theorem q1072 : (Jvm.Cond.instanceMethod ({ cls := "GameCalculator$Arena", name := "make", desc := "(Ljava/util/List;Ljava/util/List;)LGameCalculator$Game;" } : Jvm.MethodName)) ∈ lw_all := lw_g (lw_at lw_m4 221 rfl) rfl
theorem q1073 : (Jvm.Cond.selects "GameCalculator$Arena" ({ cls := "GameCalculator$Arena", name := "make", desc := "(Ljava/util/List;Ljava/util/List;)LGameCalculator$Game;" } : Jvm.MethodName) ({ cls := "GameCalculator$Arena", name := "make", desc := "(Ljava/util/List;Ljava/util/List;)LGameCalculator$Game;" } : Jvm.MethodName)) ∈ lw_all := lw_g (lw_at lw_m4 222 rfl) rfl
theorem q1074 : (Jvm.Cond.code ({ cls := "GameCalculator$Arena", name := "make", desc := "(Ljava/util/List;Ljava/util/List;)LGameCalculator$Game;" } : Jvm.MethodName) prog_2_method_15_code (9 : Nat) (Option.some (Jvm.ClassFile.FieldType.object "GameCalculator$Game"))) ∈ lw_all := lw_g (lw_at lw_m4 223 rfl) rfl
theorem q1075 : (Jvm.Cond.methodLink "GameCalculator$Arena" (121 : Nat) ({ cls := "GameCalculator$Arena", name := "candidate", desc := "(Ljava/util/List;Ljava/util/List;)LGameCalculator$Game;" } : Jvm.MethodName)) ∈ lw_all := lw_g (lw_at lw_m4 224 rfl) rfl
theorem q1076 : (Jvm.Cond.instanceMethod ({ cls := "GameCalculator$Arena", name := "candidate", desc := "(Ljava/util/List;Ljava/util/List;)LGameCalculator$Game;" } : Jvm.MethodName)) ∈ lw_all := lw_g (lw_at lw_m4 225 rfl) rfl
theorem q1077 : (Jvm.Cond.selects "GameCalculator$Arena" ({ cls := "GameCalculator$Arena", name := "candidate", desc := "(Ljava/util/List;Ljava/util/List;)LGameCalculator$Game;" } : Jvm.MethodName) ({ cls := "GameCalculator$Arena", name := "candidate", desc := "(Ljava/util/List;Ljava/util/List;)LGameCalculator$Game;" } : Jvm.MethodName)) ∈ lw_all := lw_g (lw_at lw_m4 226 rfl) rfl
theorem q1078 : (Jvm.Cond.code ({ cls := "GameCalculator$Arena", name := "candidate", desc := "(Ljava/util/List;Ljava/util/List;)LGameCalculator$Game;" } : Jvm.MethodName) prog_2_method_8_code (4 : Nat) (Option.some (Jvm.ClassFile.FieldType.object "GameCalculator$Game"))) ∈ lw_all := lw_g (lw_at lw_m4 227 rfl) rfl
theorem q1079 : (Jvm.Cond.constant "GameCalculator$Arena" (87 : Nat) (408960 : Int32)) ∈ lw_all := lw_g (lw_at lw_m4 228 rfl) rfl
theorem q1080 : (Jvm.Cond.methodLink "GameCalculator$Arena" (88 : Nat) ({ cls := "GameCalculator$Game", name := "stand", desc := "(Ljava/util/List;Ljava/util/List;)V" } : Jvm.MethodName)) ∈ lw_all := lw_g (lw_at lw_m4 229 rfl) rfl
theorem q1084 : (Jvm.Cond.methodLink "GameCalculator$Arena" (125 : Nat) ({ cls := "GameCalculator$Arena", name := "bypass", desc := "(ILjava/util/List;LGameCalculator$Game;)Ljava/util/List;" } : Jvm.MethodName)) ∈ lw_all := lw_g (lw_at lw_m4 233 rfl) rfl
theorem q1085 : (Jvm.Cond.privateMethod ({ cls := "GameCalculator$Arena", name := "bypass", desc := "(ILjava/util/List;LGameCalculator$Game;)Ljava/util/List;" } : Jvm.MethodName)) ∈ lw_tbl := lw_at lw_m4 234 rfl
theorem q1086 : (Jvm.Cond.instanceMethod ({ cls := "GameCalculator$Arena", name := "bypass", desc := "(ILjava/util/List;LGameCalculator$Game;)Ljava/util/List;" } : Jvm.MethodName)) ∈ lw_all := lw_g (lw_at lw_m4 235 rfl) rfl
theorem q1087 : (Jvm.Cond.code ({ cls := "GameCalculator$Arena", name := "bypass", desc := "(ILjava/util/List;LGameCalculator$Game;)Ljava/util/List;" } : Jvm.MethodName) prog_2_method_12_code (9 : Nat) (Option.some (Jvm.ClassFile.FieldType.object "java/util/List"))) ∈ lw_all := lw_g (lw_at lw_m4 236 rfl) rfl
theorem q1088 : (Jvm.Cond.methodLink "GameCalculator$Arena" (103 : Nat) ({ cls := "GameCalculator$Arena", name := "reversal", desc := "(ILGameCalculator$Game;LGameCalculator$Game;)LGameCalculator$Game;" } : Jvm.MethodName)) ∈ lw_all := lw_g (lw_at lw_m4 237 rfl) rfl
theorem q1089 : (Jvm.Cond.instanceMethod ({ cls := "GameCalculator$Arena", name := "reversal", desc := "(ILGameCalculator$Game;LGameCalculator$Game;)LGameCalculator$Game;" } : Jvm.MethodName)) ∈ lw_all := lw_g (lw_at lw_m4 238 rfl) rfl
theorem q1090 : (Jvm.Cond.selects "GameCalculator$Arena" ({ cls := "GameCalculator$Arena", name := "reversal", desc := "(ILGameCalculator$Game;LGameCalculator$Game;)LGameCalculator$Game;" } : Jvm.MethodName) ({ cls := "GameCalculator$Arena", name := "reversal", desc := "(ILGameCalculator$Game;LGameCalculator$Game;)LGameCalculator$Game;" } : Jvm.MethodName)) ∈ lw_all := lw_g (lw_at lw_m4 239 rfl) rfl
theorem q1091 : (Jvm.Cond.code ({ cls := "GameCalculator$Arena", name := "reversal", desc := "(ILGameCalculator$Game;LGameCalculator$Game;)LGameCalculator$Game;" } : Jvm.MethodName) prog_2_method_10_code (6 : Nat) (Option.some (Jvm.ClassFile.FieldType.object "GameCalculator$Game"))) ∈ lw_all := lw_g (lw_at lw_m5 0 rfl) rfl
theorem q1092 : (Jvm.Cond.methodLink "GameCalculator$Arena" (95 : Nat) ({ cls := "GameCalculator$Arena", name := "isNoBetter", desc := "(ILGameCalculator$Game;LGameCalculator$Game;)Z" } : Jvm.MethodName)) ∈ lw_all := lw_g (lw_at lw_m5 1 rfl) rfl
theorem q1093 : (Jvm.Cond.instanceMethod ({ cls := "GameCalculator$Arena", name := "isNoBetter", desc := "(ILGameCalculator$Game;LGameCalculator$Game;)Z" } : Jvm.MethodName)) ∈ lw_all := lw_g (lw_at lw_m5 2 rfl) rfl
theorem q1094 : (Jvm.Cond.selects "GameCalculator$Arena" ({ cls := "GameCalculator$Arena", name := "isNoBetter", desc := "(ILGameCalculator$Game;LGameCalculator$Game;)Z" } : Jvm.MethodName) ({ cls := "GameCalculator$Arena", name := "isNoBetter", desc := "(ILGameCalculator$Game;LGameCalculator$Game;)Z" } : Jvm.MethodName)) ∈ lw_all := lw_g (lw_at lw_m5 3 rfl) rfl
theorem q1095 : (Jvm.Cond.code ({ cls := "GameCalculator$Arena", name := "isNoBetter", desc := "(ILGameCalculator$Game;LGameCalculator$Game;)Z" } : Jvm.MethodName) prog_2_method_9_code (4 : Nat) (Option.some Jvm.ClassFile.FieldType.boolean)) ∈ lw_all := lw_g (lw_at lw_m5 4 rfl) rfl
theorem q1096 : (Jvm.Cond.methodLink "GameCalculator$Arena" (62 : Nat) ({ cls := "GameCalculator$Arena", name := "isAtMost", desc := "(LGameCalculator$Game;LGameCalculator$Game;)Z" } : Jvm.MethodName)) ∈ lw_all := lw_g (lw_at lw_m5 5 rfl) rfl
theorem q1097 : (Jvm.Cond.instanceMethod ({ cls := "GameCalculator$Arena", name := "isAtMost", desc := "(LGameCalculator$Game;LGameCalculator$Game;)Z" } : Jvm.MethodName)) ∈ lw_all := lw_g (lw_at lw_m5 6 rfl) rfl
theorem q1098 : (Jvm.Cond.selects "GameCalculator$Arena" ({ cls := "GameCalculator$Arena", name := "isAtMost", desc := "(LGameCalculator$Game;LGameCalculator$Game;)Z" } : Jvm.MethodName) ({ cls := "GameCalculator$Arena", name := "isAtMost", desc := "(LGameCalculator$Game;LGameCalculator$Game;)Z" } : Jvm.MethodName)) ∈ lw_all := lw_g (lw_at lw_m5 7 rfl) rfl
theorem q1099 : (Jvm.Cond.code ({ cls := "GameCalculator$Arena", name := "isAtMost", desc := "(LGameCalculator$Game;LGameCalculator$Game;)Z" } : Jvm.MethodName) prog_2_method_3_code (4 : Nat) (Option.some Jvm.ClassFile.FieldType.boolean)) ∈ lw_all := lw_g (lw_at lw_m5 8 rfl) rfl
theorem q1100 : (Jvm.Cond.methodLink "GameCalculator$Arena" (51 : Nat) ({ cls := "GameCalculator$Arena", name := "findAtMost", desc := "(LGameCalculator$Game;LGameCalculator$Game;)Z" } : Jvm.MethodName)) ∈ lw_all := lw_g (lw_at lw_m5 9 rfl) rfl
theorem q1101 : (Jvm.Cond.privateMethod ({ cls := "GameCalculator$Arena", name := "findAtMost", desc := "(LGameCalculator$Game;LGameCalculator$Game;)Z" } : Jvm.MethodName)) ∈ lw_tbl := lw_at lw_m5 10 rfl
theorem q1102 : (Jvm.Cond.instanceMethod ({ cls := "GameCalculator$Arena", name := "findAtMost", desc := "(LGameCalculator$Game;LGameCalculator$Game;)Z" } : Jvm.MethodName)) ∈ lw_all := lw_g (lw_at lw_m5 11 rfl) rfl
theorem q1103 : (Jvm.Cond.code ({ cls := "GameCalculator$Arena", name := "findAtMost", desc := "(LGameCalculator$Game;LGameCalculator$Game;)Z" } : Jvm.MethodName) prog_2_method_4_code (4 : Nat) (Option.some Jvm.ClassFile.FieldType.boolean)) ∈ lw_all := lw_g (lw_at lw_m5 12 rfl) rfl
theorem q1104 : (Jvm.Cond.methodLink "GameCalculator$Arena" (107 : Nat) ({ cls := "GameCalculator$Arena", name := "add", desc := "(Ljava/util/List;LGameCalculator$Game;)V" } : Jvm.MethodName)) ∈ lw_all := lw_g (lw_at lw_m5 13 rfl) rfl
theorem q1105 : (Jvm.Cond.static ({ cls := "GameCalculator$Arena", name := "add", desc := "(Ljava/util/List;LGameCalculator$Game;)V" } : Jvm.MethodName)) ∈ lw_all := lw_g (lw_at lw_m5 14 rfl) rfl
theorem q1106 : (Jvm.Cond.code ({ cls := "GameCalculator$Arena", name := "add", desc := "(Ljava/util/List;LGameCalculator$Game;)V" } : Jvm.MethodName) prog_2_method_11_code (4 : Nat) (Option.none : Option Jvm.ClassFile.FieldType)) ∈ lw_all := lw_g (lw_at lw_m5 15 rfl) rfl
theorem q1107 : (Jvm.Cond.methodLinkNest "GameCalculator$Arena" (129 : Nat) ({ cls := "GameCalculator$Game", name := "areSame", desc := "(Ljava/util/List;Ljava/util/List;)Z" } : Jvm.MethodName) "GameCalculator") ∈ lw_tbl := lw_at lw_m5 16 rfl
theorem q1108 : (Jvm.Cond.methodLink "GameCalculator$Arena" (136 : Nat) ({ cls := "GameCalculator$Arena", name := "best", desc := "(ILjava/util/List;)Ljava/util/List;" } : Jvm.MethodName)) ∈ lw_all := lw_g (lw_at lw_m5 17 rfl) rfl
theorem q1109 : (Jvm.Cond.privateMethod ({ cls := "GameCalculator$Arena", name := "best", desc := "(ILjava/util/List;)Ljava/util/List;" } : Jvm.MethodName)) ∈ lw_tbl := lw_at lw_m5 18 rfl
theorem q1110 : (Jvm.Cond.instanceMethod ({ cls := "GameCalculator$Arena", name := "best", desc := "(ILjava/util/List;)Ljava/util/List;" } : Jvm.MethodName)) ∈ lw_all := lw_g (lw_at lw_m5 19 rfl) rfl
theorem q1111 : (Jvm.Cond.code ({ cls := "GameCalculator$Arena", name := "best", desc := "(ILjava/util/List;)Ljava/util/List;" } : Jvm.MethodName) prog_2_method_14_code (6 : Nat) (Option.some (Jvm.ClassFile.FieldType.object "java/util/List"))) ∈ lw_all := lw_g (lw_at lw_m5 20 rfl) rfl
theorem q1112 : (Jvm.Cond.methodLink "GameCalculator$Arena" (117 : Nat) ({ cls := "GameCalculator$Arena", name := "isDominated", desc := "(ILGameCalculator$Game;Ljava/util/List;)Z" } : Jvm.MethodName)) ∈ lw_all := lw_g (lw_at lw_m5 21 rfl) rfl
theorem q1113 : (Jvm.Cond.instanceMethod ({ cls := "GameCalculator$Arena", name := "isDominated", desc := "(ILGameCalculator$Game;Ljava/util/List;)Z" } : Jvm.MethodName)) ∈ lw_all := lw_g (lw_at lw_m5 22 rfl) rfl
theorem q1114 : (Jvm.Cond.selects "GameCalculator$Arena" ({ cls := "GameCalculator$Arena", name := "isDominated", desc := "(ILGameCalculator$Game;Ljava/util/List;)Z" } : Jvm.MethodName) ({ cls := "GameCalculator$Arena", name := "isDominated", desc := "(ILGameCalculator$Game;Ljava/util/List;)Z" } : Jvm.MethodName)) ∈ lw_all := lw_g (lw_at lw_m5 23 rfl) rfl
theorem q1115 : (Jvm.Cond.code ({ cls := "GameCalculator$Arena", name := "isDominated", desc := "(ILGameCalculator$Game;Ljava/util/List;)Z" } : Jvm.MethodName) prog_2_method_13_code (5 : Nat) (Option.some Jvm.ClassFile.FieldType.boolean)) ∈ lw_all := lw_g (lw_at lw_m5 24 rfl) rfl
theorem q1116 : (Jvm.Cond.methodLink "GameCalculator$Arena" (140 : Nat) ({ cls := "GameCalculator$Arena", name := "intern", desc := "(Ljava/util/List;Ljava/util/List;)LGameCalculator$Game;" } : Jvm.MethodName)) ∈ lw_all := lw_g (lw_at lw_m5 25 rfl) rfl
theorem q1142 : (Jvm.Cond.instanceMethod ({ cls := "GameCalculator$Arena", name := "game", desc := "(LGameCalculator$Form;)LGameCalculator$Game;" } : Jvm.MethodName)) ∈ lw_all := lw_g (lw_at lw_m5 51 rfl) rfl
theorem q1143 : (Jvm.Cond.selects "GameCalculator$Arena" ({ cls := "GameCalculator$Arena", name := "game", desc := "(LGameCalculator$Form;)LGameCalculator$Game;" } : Jvm.MethodName) ({ cls := "GameCalculator$Arena", name := "game", desc := "(LGameCalculator$Form;)LGameCalculator$Game;" } : Jvm.MethodName)) ∈ lw_all := lw_g (lw_at lw_m5 52 rfl) rfl
theorem q1144 : (Jvm.Cond.code ({ cls := "GameCalculator$Arena", name := "game", desc := "(LGameCalculator$Form;)LGameCalculator$Game;" } : Jvm.MethodName) prog_2_method_19_code (2 : Nat) (Option.some (Jvm.ClassFile.FieldType.object "GameCalculator$Game"))) ∈ lw_all := lw_g (lw_at lw_m5 53 rfl) rfl
theorem q1145 : (Jvm.Cond.methodLink "GameCalculator$Arena" (168 : Nat) ({ cls := "GameCalculator$Arena", name := "take", desc := "(LGameCalculator$Form;)[LGameCalculator$Game;" } : Jvm.MethodName)) ∈ lw_all := lw_g (lw_at lw_m5 54 rfl) rfl
theorem q1146 : (Jvm.Cond.instanceMethod ({ cls := "GameCalculator$Arena", name := "take", desc := "(LGameCalculator$Form;)[LGameCalculator$Game;" } : Jvm.MethodName)) ∈ lw_all := lw_g (lw_at lw_m5 55 rfl) rfl
theorem q1147 : (Jvm.Cond.selects "GameCalculator$Arena" ({ cls := "GameCalculator$Arena", name := "take", desc := "(LGameCalculator$Form;)[LGameCalculator$Game;" } : Jvm.MethodName) ({ cls := "GameCalculator$Arena", name := "take", desc := "(LGameCalculator$Form;)[LGameCalculator$Game;" } : Jvm.MethodName)) ∈ lw_all := lw_g (lw_at lw_m5 56 rfl) rfl
theorem q1148 : (Jvm.Cond.code ({ cls := "GameCalculator$Arena", name := "take", desc := "(LGameCalculator$Form;)[LGameCalculator$Game;" } : Jvm.MethodName) prog_2_method_18_code (6 : Nat) (Option.some (Jvm.ClassFile.FieldType.array (Jvm.ClassFile.FieldType.object "GameCalculator$Game")))) ∈ lw_all := lw_g (lw_at lw_m5 57 rfl) rfl
theorem q1149 : (Jvm.Cond.methodLink "GameCalculator$Arena" (161 : Nat) ({ cls := "GameCalculator$Arena", name := "listOf", desc := "([LGameCalculator$Game;I)Ljava/util/List;" } : Jvm.MethodName)) ∈ lw_all := lw_g (lw_at lw_m5 58 rfl) rfl
theorem q1150 : (Jvm.Cond.instanceMethod ({ cls := "GameCalculator$Arena", name := "listOf", desc := "([LGameCalculator$Game;I)Ljava/util/List;" } : Jvm.MethodName)) ∈ lw_all := lw_g (lw_at lw_m5 59 rfl) rfl
theorem q1151 : (Jvm.Cond.selects "GameCalculator$Arena" ({ cls := "GameCalculator$Arena", name := "listOf", desc := "([LGameCalculator$Game;I)Ljava/util/List;" } : Jvm.MethodName) ({ cls := "GameCalculator$Arena", name := "listOf", desc := "([LGameCalculator$Game;I)Ljava/util/List;" } : Jvm.MethodName)) ∈ lw_all := lw_g (lw_at lw_m5 60 rfl) rfl
theorem q1152 : (Jvm.Cond.code ({ cls := "GameCalculator$Arena", name := "listOf", desc := "([LGameCalculator$Game;I)Ljava/util/List;" } : Jvm.MethodName) prog_2_method_17_code (5 : Nat) (Option.some (Jvm.ClassFile.FieldType.object "java/util/List"))) ∈ lw_all := lw_g (lw_at lw_m5 61 rfl) rfl
theorem q1153 : (Jvm.Cond.methodLink "GameCalculator$Arena" (146 : Nat) ({ cls := "java/lang/Integer", name := "numberOfTrailingZeros", desc := "(I)I" } : Jvm.MethodName)) ∈ lw_all := lw_g (lw_at lw_m5 62 rfl) rfl
theorem q1156 : (Jvm.Cond.instanceMethod ({ cls := "GameCalculator$Arena", name := "makeOf", desc := "(Ljava/util/List;Ljava/util/List;)LGameCalculator$Game;" } : Jvm.MethodName)) ∈ lw_all := lw_g (lw_at lw_m5 65 rfl) rfl
theorem q1157 : (Jvm.Cond.selects "GameCalculator$Arena" ({ cls := "GameCalculator$Arena", name := "makeOf", desc := "(Ljava/util/List;Ljava/util/List;)LGameCalculator$Game;" } : Jvm.MethodName) ({ cls := "GameCalculator$Arena", name := "makeOf", desc := "(Ljava/util/List;Ljava/util/List;)LGameCalculator$Game;" } : Jvm.MethodName)) ∈ lw_all := lw_g (lw_at lw_m5 66 rfl) rfl
theorem q1158 : (Jvm.Cond.code ({ cls := "GameCalculator$Arena", name := "makeOf", desc := "(Ljava/util/List;Ljava/util/List;)LGameCalculator$Game;" } : Jvm.MethodName) prog_2_method_16_code (4 : Nat) (Option.some (Jvm.ClassFile.FieldType.object "GameCalculator$Game"))) ∈ lw_all := lw_g (lw_at lw_m5 67 rfl) rfl
theorem q1159 : (Jvm.Cond.methodLink "GameCalculator$Arena" (143 : Nat) ({ cls := "GameCalculator$Arena", name := "make", desc := "(Ljava/util/List;Ljava/util/List;)LGameCalculator$Game;" } : Jvm.MethodName)) ∈ lw_all := lw_g (lw_at lw_m5 68 rfl) rfl
theorem q3000 : (Jvm.Cond.castable "GameCalculator$Arena" "java/lang/Object") ∈ lw_tbl := lw_at lw_m12 229 rfl
theorem in_X1 : ∀ w ∈ wsX10, w ∈ lw_all := lw_in wsX10 [264, 266, 268, 270, 272] (by decide +kernel) (by decide +kernel)
/-! GameCalculator$Game -/
set_option maxRecDepth 100000
def RX2 : String := "GameCalculator$Game"
def TX2 : u_T := fun k => match k with
  | 0 => ("GameCalculator$Game", "id", "I", true)
  | 1 => ("GameCalculator$Game", "left", "Ljava/util/List;", false)
  | 2 => ("GameCalculator$Game", "right", "Ljava/util/List;", false)
  | _ => ("GameCalculator$Game", "birthday", "I", false)
def tyX2 : Nat → FieldType := fun k => match k with
  | 0 => .int
  | 1 => .object "java/util/List"
  | 2 => .object "java/util/List"
  | _ => .int
abbrev wsX20 : List Cond := u_ws RX2 TX2 4
theorem nmX2 : ∀ a, a < 4 → ∀ b, b < 4 → a ≠ b → (TX2 a).2.1 ≠ (TX2 b).2.1 := by decide +kernel
theorem tyX2_ok : ∀ k, k < 4 → parseFieldDescriptor (TX2 k).2.2.1 = some (tyX2 k) := by decide +kernel
abbrev cX2_init : ByteArray := prog_6_method_1_code
def yX2_init : MethodName := ⟨RX2, "<init>", "(I)V"⟩
def dkwX2_init_1 : List UInt8 := [181, 0, 18, 42, 27, 181, 0, 21, 177]
abbrev dktX2_init_1 : List UInt8 := dkwX2_init_1 ++ []
def dkwX2_init_0 : List UInt8 := [42, 183, 0, 3, 42, 187, 0, 9, 89, 183, 0, 11, 181, 0, 12, 42, 187, 0, 9, 89, 183, 0, 11]
abbrev dktX2_init_0 : List UInt8 := dkwX2_init_0 ++ dktX2_init_1
theorem dksX2_init_0 : cX2_init.data.toList.drop 0 = dktX2_init_0 := by decide +kernel
theorem dksX2_init_1 : cX2_init.data.toList.drop 23 = dktX2_init_1 := dk_seg dksX2_init_0 23 rfl rfl
theorem dX2_init_0 : decode cX2_init 0 = .ok (.aload_n 0, 1) := dk_42 (dk_at dksX2_init_0 0 rfl rfl)
theorem dX2_init_1 : decode cX2_init 1 = .ok (.invokespecial 3, 3) := dk_183 0 3 (dk_at dksX2_init_0 1 rfl rfl)
theorem dX2_init_4 : decode cX2_init 4 = .ok (.aload_n 0, 1) := dk_42 (dk_at dksX2_init_0 4 rfl rfl)
theorem dX2_init_5 : decode cX2_init 5 = .ok (.new 9, 3) := dk_187 0 9 (dk_at dksX2_init_0 5 rfl rfl)
theorem dX2_init_8 : decode cX2_init 8 = .ok (.dup, 1) := dk_89 (dk_at dksX2_init_0 8 rfl rfl)
theorem dX2_init_9 : decode cX2_init 9 = .ok (.invokespecial 11, 3) := dk_183 0 11 (dk_at dksX2_init_0 9 rfl rfl)
theorem dX2_init_12 : decode cX2_init 12 = .ok (.putfield 12, 3) := dk_181 0 12 (dk_at dksX2_init_0 12 rfl rfl)
theorem dX2_init_15 : decode cX2_init 15 = .ok (.aload_n 0, 1) := dk_42 (dk_at dksX2_init_0 15 rfl rfl)
theorem dX2_init_16 : decode cX2_init 16 = .ok (.new 9, 3) := dk_187 0 9 (dk_at dksX2_init_0 16 rfl rfl)
theorem dX2_init_19 : decode cX2_init 19 = .ok (.dup, 1) := dk_89 (dk_at dksX2_init_0 19 rfl rfl)
theorem dX2_init_20 : decode cX2_init 20 = .ok (.invokespecial 11, 3) := dk_183 0 11 (dk_at dksX2_init_0 20 rfl rfl)
theorem dX2_init_23 : decode cX2_init 23 = .ok (.putfield 18, 3) := dk_181 0 18 (dk_at dksX2_init_1 0 rfl rfl)
theorem dX2_init_26 : decode cX2_init 26 = .ok (.aload_n 0, 1) := dk_42 (dk_at dksX2_init_1 3 rfl rfl)
theorem dX2_init_27 : decode cX2_init 27 = .ok (.iload_n 1, 1) := dk_27 (dk_at dksX2_init_1 4 rfl rfl)
theorem dX2_init_28 : decode cX2_init 28 = .ok (.putfield 21, 3) := dk_181 0 21 (dk_at dksX2_init_1 5 rfl rfl)
theorem dX2_init_31 : decode cX2_init 31 = .ok (.return_, 1) := dk_177 (dk_at dksX2_init_1 8 rfl rfl)
abbrev cX2_hasOptions : ByteArray := prog_6_method_9_code
def yX2_hasOptions : MethodName := ⟨RX2, "hasOptions", "(Ljava/util/List;Ljava/util/List;)Z"⟩
def dkwX2_hasOptions_1 : List UInt8 := [167, 0, 4, 3, 172]
abbrev dktX2_hasOptions_1 : List UInt8 := dkwX2_hasOptions_1 ++ []
def dkwX2_hasOptions_0 : List UInt8 := [42, 180, 0, 12, 43, 184, 0, 70, 153, 0, 18, 42, 180, 0, 18, 44, 184, 0, 70, 153, 0, 7, 4]
abbrev dktX2_hasOptions_0 : List UInt8 := dkwX2_hasOptions_0 ++ dktX2_hasOptions_1
theorem dksX2_hasOptions_0 : cX2_hasOptions.data.toList.drop 0 = dktX2_hasOptions_0 := by decide +kernel
theorem dksX2_hasOptions_1 : cX2_hasOptions.data.toList.drop 23 = dktX2_hasOptions_1 := dk_seg dksX2_hasOptions_0 23 rfl rfl
theorem dX2_hasOptions_0 : decode cX2_hasOptions 0 = .ok (.aload_n 0, 1) := dk_42 (dk_at dksX2_hasOptions_0 0 rfl rfl)
theorem dX2_hasOptions_1 : decode cX2_hasOptions 1 = .ok (.getfield 12, 3) := dk_180 0 12 (dk_at dksX2_hasOptions_0 1 rfl rfl)
theorem dX2_hasOptions_4 : decode cX2_hasOptions 4 = .ok (.aload_n 1, 1) := dk_43 (dk_at dksX2_hasOptions_0 4 rfl rfl)
theorem dX2_hasOptions_5 : decode cX2_hasOptions 5 = .ok (.invokestatic 70, 3) := dk_184 0 70 (dk_at dksX2_hasOptions_0 5 rfl rfl)
theorem dX2_hasOptions_8 : decode cX2_hasOptions 8 = .ok (.ifCond .eq 18, 3) := dk_153 0 18 (dk_at dksX2_hasOptions_0 8 rfl rfl)
theorem dX2_hasOptions_11 : decode cX2_hasOptions 11 = .ok (.aload_n 0, 1) := dk_42 (dk_at dksX2_hasOptions_0 11 rfl rfl)
theorem dX2_hasOptions_12 : decode cX2_hasOptions 12 = .ok (.getfield 18, 3) := dk_180 0 18 (dk_at dksX2_hasOptions_0 12 rfl rfl)
theorem dX2_hasOptions_15 : decode cX2_hasOptions 15 = .ok (.aload_n 2, 1) := dk_44 (dk_at dksX2_hasOptions_0 15 rfl rfl)
theorem dX2_hasOptions_16 : decode cX2_hasOptions 16 = .ok (.invokestatic 70, 3) := dk_184 0 70 (dk_at dksX2_hasOptions_0 16 rfl rfl)
theorem dX2_hasOptions_19 : decode cX2_hasOptions 19 = .ok (.ifCond .eq 7, 3) := dk_153 0 7 (dk_at dksX2_hasOptions_0 19 rfl rfl)
theorem dX2_hasOptions_22 : decode cX2_hasOptions 22 = .ok (.iconst 1, 1) := dk_4 (dk_at dksX2_hasOptions_0 22 rfl rfl)
theorem dX2_hasOptions_23 : decode cX2_hasOptions 23 = .ok (.goto 4, 3) := dk_167 0 4 (dk_at dksX2_hasOptions_1 0 rfl rfl)
theorem dX2_hasOptions_26 : decode cX2_hasOptions 26 = .ok (.iconst 0, 1) := dk_3 (dk_at dksX2_hasOptions_1 3 rfl rfl)
theorem dX2_hasOptions_27 : decode cX2_hasOptions 27 = .ok (.ireturn, 1) := dk_172 (dk_at dksX2_hasOptions_1 4 rfl rfl)
abbrev cX2_areSame : ByteArray := prog_6_method_10_code
def yX2_areSame : MethodName := ⟨RX2, "areSame", "(Ljava/util/List;Ljava/util/List;)Z"⟩
def dkwX2_areSame_2 : List UInt8 := [185, 0, 51, 2, 0, 166, 0, 7, 4, 167, 0, 4, 3, 61, 132, 3, 1, 167, 255, 216, 28, 172]
abbrev dktX2_areSame_2 : List UInt8 := dkwX2_areSame_2 ++ []
def dkwX2_areSame_1 : List UInt8 := [42, 185, 0, 47, 1, 0, 162, 0, 36, 28, 153, 0, 32, 42, 29, 185, 0, 51, 2, 0, 43, 29]
abbrev dktX2_areSame_1 : List UInt8 := dkwX2_areSame_1 ++ dktX2_areSame_2
def dkwX2_areSame_0 : List UInt8 := [42, 185, 0, 47, 1, 0, 43, 185, 0, 47, 1, 0, 160, 0, 7, 4, 167, 0, 4, 3, 61, 3, 62, 29]
abbrev dktX2_areSame_0 : List UInt8 := dkwX2_areSame_0 ++ dktX2_areSame_1
theorem dksX2_areSame_0 : cX2_areSame.data.toList.drop 0 = dktX2_areSame_0 := by decide +kernel
theorem dksX2_areSame_1 : cX2_areSame.data.toList.drop 24 = dktX2_areSame_1 := dk_seg dksX2_areSame_0 24 rfl rfl
theorem dksX2_areSame_2 : cX2_areSame.data.toList.drop 46 = dktX2_areSame_2 := dk_seg dksX2_areSame_1 22 rfl rfl
theorem dX2_areSame_0 : decode cX2_areSame 0 = .ok (.aload_n 0, 1) := dk_42 (dk_at dksX2_areSame_0 0 rfl rfl)
theorem dX2_areSame_1 : decode cX2_areSame 1 = .ok (.invokeinterface 47 1, 5) := by decide +kernel
theorem dX2_areSame_6 : decode cX2_areSame 6 = .ok (.aload_n 1, 1) := dk_43 (dk_at dksX2_areSame_0 6 rfl rfl)
theorem dX2_areSame_7 : decode cX2_areSame 7 = .ok (.invokeinterface 47 1, 5) := by decide +kernel
theorem dX2_areSame_12 : decode cX2_areSame 12 = .ok (.if_icmp .ne 7, 3) := dk_160 0 7 (dk_at dksX2_areSame_0 12 rfl rfl)
theorem dX2_areSame_15 : decode cX2_areSame 15 = .ok (.iconst 1, 1) := dk_4 (dk_at dksX2_areSame_0 15 rfl rfl)
theorem dX2_areSame_16 : decode cX2_areSame 16 = .ok (.goto 4, 3) := dk_167 0 4 (dk_at dksX2_areSame_0 16 rfl rfl)
theorem dX2_areSame_19 : decode cX2_areSame 19 = .ok (.iconst 0, 1) := dk_3 (dk_at dksX2_areSame_0 19 rfl rfl)
theorem dX2_areSame_20 : decode cX2_areSame 20 = .ok (.istore_n 2, 1) := dk_61 (dk_at dksX2_areSame_0 20 rfl rfl)
theorem dX2_areSame_21 : decode cX2_areSame 21 = .ok (.iconst 0, 1) := dk_3 (dk_at dksX2_areSame_0 21 rfl rfl)
theorem dX2_areSame_22 : decode cX2_areSame 22 = .ok (.istore_n 3, 1) := dk_62 (dk_at dksX2_areSame_0 22 rfl rfl)
theorem dX2_areSame_23 : decode cX2_areSame 23 = .ok (.iload_n 3, 1) := dk_29 (dk_at dksX2_areSame_0 23 rfl rfl)
theorem dX2_areSame_24 : decode cX2_areSame 24 = .ok (.aload_n 0, 1) := dk_42 (dk_at dksX2_areSame_1 0 rfl rfl)
theorem dX2_areSame_25 : decode cX2_areSame 25 = .ok (.invokeinterface 47 1, 5) := by decide +kernel
theorem dX2_areSame_30 : decode cX2_areSame 30 = .ok (.if_icmp .ge 36, 3) := dk_162 0 36 (dk_at dksX2_areSame_1 6 rfl rfl)
theorem dX2_areSame_33 : decode cX2_areSame 33 = .ok (.iload_n 2, 1) := dk_28 (dk_at dksX2_areSame_1 9 rfl rfl)
theorem dX2_areSame_34 : decode cX2_areSame 34 = .ok (.ifCond .eq 32, 3) := dk_153 0 32 (dk_at dksX2_areSame_1 10 rfl rfl)
theorem dX2_areSame_37 : decode cX2_areSame 37 = .ok (.aload_n 0, 1) := dk_42 (dk_at dksX2_areSame_1 13 rfl rfl)
theorem dX2_areSame_38 : decode cX2_areSame 38 = .ok (.iload_n 3, 1) := dk_29 (dk_at dksX2_areSame_1 14 rfl rfl)
theorem dX2_areSame_39 : decode cX2_areSame 39 = .ok (.invokeinterface 51 2, 5) := by decide +kernel
theorem dX2_areSame_44 : decode cX2_areSame 44 = .ok (.aload_n 1, 1) := dk_43 (dk_at dksX2_areSame_1 20 rfl rfl)
theorem dX2_areSame_45 : decode cX2_areSame 45 = .ok (.iload_n 3, 1) := dk_29 (dk_at dksX2_areSame_1 21 rfl rfl)
theorem dX2_areSame_46 : decode cX2_areSame 46 = .ok (.invokeinterface 51 2, 5) := by decide +kernel
theorem dX2_areSame_51 : decode cX2_areSame 51 = .ok (.if_acmp .ne 7, 3) := dk_166 0 7 (dk_at dksX2_areSame_2 5 rfl rfl)
theorem dX2_areSame_54 : decode cX2_areSame 54 = .ok (.iconst 1, 1) := dk_4 (dk_at dksX2_areSame_2 8 rfl rfl)
theorem dX2_areSame_55 : decode cX2_areSame 55 = .ok (.goto 4, 3) := dk_167 0 4 (dk_at dksX2_areSame_2 9 rfl rfl)
theorem dX2_areSame_58 : decode cX2_areSame 58 = .ok (.iconst 0, 1) := dk_3 (dk_at dksX2_areSame_2 12 rfl rfl)
theorem dX2_areSame_59 : decode cX2_areSame 59 = .ok (.istore_n 2, 1) := dk_61 (dk_at dksX2_areSame_2 13 rfl rfl)
theorem dX2_areSame_60 : decode cX2_areSame 60 = .ok (.iinc 3 1, 3) := dk_132 3 1 (dk_at dksX2_areSame_2 14 rfl rfl)
theorem dX2_areSame_63 : decode cX2_areSame 63 = .ok (.goto (-40), 3) := dk_167 255 216 (dk_at dksX2_areSame_2 17 rfl rfl)
theorem dX2_areSame_66 : decode cX2_areSame 66 = .ok (.iload_n 2, 1) := dk_28 (dk_at dksX2_areSame_2 20 rfl rfl)
theorem dX2_areSame_67 : decode cX2_areSame 67 = .ok (.ireturn, 1) := dk_172 (dk_at dksX2_areSame_2 21 rfl rfl)
abbrev cX2_fill : ByteArray := prog_6_method_2_code
def yX2_fill : MethodName := ⟨RX2, "fill", "(Ljava/util/List;Ljava/util/List;)V"⟩
def dkwX2_fill_1 : List UInt8 := [42, 180, 0, 18, 184, 0, 29, 184, 0, 33, 181, 0, 39, 177]
abbrev dktX2_fill_1 : List UInt8 := dkwX2_fill_1 ++ []
def dkwX2_fill_0 : List UInt8 := [42, 180, 0, 12, 43, 184, 0, 25, 42, 180, 0, 18, 44, 184, 0, 25, 42, 42, 180, 0, 12, 184, 0, 29]
abbrev dktX2_fill_0 : List UInt8 := dkwX2_fill_0 ++ dktX2_fill_1
theorem dksX2_fill_0 : cX2_fill.data.toList.drop 0 = dktX2_fill_0 := by decide +kernel
theorem dksX2_fill_1 : cX2_fill.data.toList.drop 24 = dktX2_fill_1 := dk_seg dksX2_fill_0 24 rfl rfl
theorem dX2_fill_0 : decode cX2_fill 0 = .ok (.aload_n 0, 1) := dk_42 (dk_at dksX2_fill_0 0 rfl rfl)
theorem dX2_fill_1 : decode cX2_fill 1 = .ok (.getfield 12, 3) := dk_180 0 12 (dk_at dksX2_fill_0 1 rfl rfl)
theorem dX2_fill_4 : decode cX2_fill 4 = .ok (.aload_n 1, 1) := dk_43 (dk_at dksX2_fill_0 4 rfl rfl)
theorem dX2_fill_5 : decode cX2_fill 5 = .ok (.invokestatic 25, 3) := dk_184 0 25 (dk_at dksX2_fill_0 5 rfl rfl)
theorem dX2_fill_8 : decode cX2_fill 8 = .ok (.aload_n 0, 1) := dk_42 (dk_at dksX2_fill_0 8 rfl rfl)
theorem dX2_fill_9 : decode cX2_fill 9 = .ok (.getfield 18, 3) := dk_180 0 18 (dk_at dksX2_fill_0 9 rfl rfl)
theorem dX2_fill_12 : decode cX2_fill 12 = .ok (.aload_n 2, 1) := dk_44 (dk_at dksX2_fill_0 12 rfl rfl)
theorem dX2_fill_13 : decode cX2_fill 13 = .ok (.invokestatic 25, 3) := dk_184 0 25 (dk_at dksX2_fill_0 13 rfl rfl)
theorem dX2_fill_16 : decode cX2_fill 16 = .ok (.aload_n 0, 1) := dk_42 (dk_at dksX2_fill_0 16 rfl rfl)
theorem dX2_fill_17 : decode cX2_fill 17 = .ok (.aload_n 0, 1) := dk_42 (dk_at dksX2_fill_0 17 rfl rfl)
theorem dX2_fill_18 : decode cX2_fill 18 = .ok (.getfield 12, 3) := dk_180 0 12 (dk_at dksX2_fill_0 18 rfl rfl)
theorem dX2_fill_21 : decode cX2_fill 21 = .ok (.invokestatic 29, 3) := dk_184 0 29 (dk_at dksX2_fill_0 21 rfl rfl)
theorem dX2_fill_24 : decode cX2_fill 24 = .ok (.aload_n 0, 1) := dk_42 (dk_at dksX2_fill_1 0 rfl rfl)
theorem dX2_fill_25 : decode cX2_fill 25 = .ok (.getfield 18, 3) := dk_180 0 18 (dk_at dksX2_fill_1 1 rfl rfl)
theorem dX2_fill_28 : decode cX2_fill 28 = .ok (.invokestatic 29, 3) := dk_184 0 29 (dk_at dksX2_fill_1 4 rfl rfl)
theorem dX2_fill_31 : decode cX2_fill 31 = .ok (.invokestatic 33, 3) := dk_184 0 33 (dk_at dksX2_fill_1 7 rfl rfl)
theorem dX2_fill_34 : decode cX2_fill 34 = .ok (.putfield 39, 3) := dk_181 0 39 (dk_at dksX2_fill_1 10 rfl rfl)
theorem dX2_fill_37 : decode cX2_fill 37 = .ok (.return_, 1) := dk_177 (dk_at dksX2_fill_1 13 rfl rfl)
abbrev cX2_lay : ByteArray := prog_6_method_3_code
def yX2_lay : MethodName := ⟨RX2, "lay", "(Ljava/util/List;Ljava/util/List;)V"⟩
def dkwX2_lay_1 : List UInt8 := [185, 0, 51, 2, 0, 192, 0, 13, 185, 0, 55, 2, 0, 87, 132, 2, 1, 167, 255, 226, 177]
abbrev dktX2_lay_1 : List UInt8 := dkwX2_lay_1 ++ []
def dkwX2_lay_0 : List UInt8 := [42, 185, 0, 42, 1, 0, 3, 61, 28, 43, 185, 0, 47, 1, 0, 162, 0, 26, 42, 43, 28]
abbrev dktX2_lay_0 : List UInt8 := dkwX2_lay_0 ++ dktX2_lay_1
theorem dksX2_lay_0 : cX2_lay.data.toList.drop 0 = dktX2_lay_0 := by decide +kernel
theorem dksX2_lay_1 : cX2_lay.data.toList.drop 21 = dktX2_lay_1 := dk_seg dksX2_lay_0 21 rfl rfl
theorem dX2_lay_0 : decode cX2_lay 0 = .ok (.aload_n 0, 1) := dk_42 (dk_at dksX2_lay_0 0 rfl rfl)
theorem dX2_lay_1 : decode cX2_lay 1 = .ok (.invokeinterface 42 1, 5) := by decide +kernel
theorem dX2_lay_6 : decode cX2_lay 6 = .ok (.iconst 0, 1) := dk_3 (dk_at dksX2_lay_0 6 rfl rfl)
theorem dX2_lay_7 : decode cX2_lay 7 = .ok (.istore_n 2, 1) := dk_61 (dk_at dksX2_lay_0 7 rfl rfl)
theorem dX2_lay_8 : decode cX2_lay 8 = .ok (.iload_n 2, 1) := dk_28 (dk_at dksX2_lay_0 8 rfl rfl)
theorem dX2_lay_9 : decode cX2_lay 9 = .ok (.aload_n 1, 1) := dk_43 (dk_at dksX2_lay_0 9 rfl rfl)
theorem dX2_lay_10 : decode cX2_lay 10 = .ok (.invokeinterface 47 1, 5) := by decide +kernel
theorem dX2_lay_15 : decode cX2_lay 15 = .ok (.if_icmp .ge 26, 3) := dk_162 0 26 (dk_at dksX2_lay_0 15 rfl rfl)
theorem dX2_lay_18 : decode cX2_lay 18 = .ok (.aload_n 0, 1) := dk_42 (dk_at dksX2_lay_0 18 rfl rfl)
theorem dX2_lay_19 : decode cX2_lay 19 = .ok (.aload_n 1, 1) := dk_43 (dk_at dksX2_lay_0 19 rfl rfl)
theorem dX2_lay_20 : decode cX2_lay 20 = .ok (.iload_n 2, 1) := dk_28 (dk_at dksX2_lay_0 20 rfl rfl)
theorem dX2_lay_21 : decode cX2_lay 21 = .ok (.invokeinterface 51 2, 5) := by decide +kernel
theorem dX2_lay_26 : decode cX2_lay 26 = .ok (.checkcast 13, 3) := dk_192 0 13 (dk_at dksX2_lay_1 5 rfl rfl)
theorem dX2_lay_29 : decode cX2_lay 29 = .ok (.invokeinterface 55 2, 5) := by decide +kernel
theorem dX2_lay_34 : decode cX2_lay 34 = .ok (.pop, 1) := dk_87 (dk_at dksX2_lay_1 13 rfl rfl)
theorem dX2_lay_35 : decode cX2_lay 35 = .ok (.iinc 2 1, 3) := dk_132 2 1 (dk_at dksX2_lay_1 14 rfl rfl)
theorem dX2_lay_38 : decode cX2_lay 38 = .ok (.goto (-30), 3) := dk_167 255 226 (dk_at dksX2_lay_1 17 rfl rfl)
theorem dX2_lay_41 : decode cX2_lay 41 = .ok (.return_, 1) := dk_177 (dk_at dksX2_lay_1 20 rfl rfl)
abbrev cX2_youngest : ByteArray := prog_6_method_5_code
def yX2_youngest : MethodName := ⟨RX2, "youngest", "(Ljava/util/List;)I"⟩
def dkwX2_youngest_1 : List UInt8 := [192, 0, 13, 180, 0, 39, 4, 96, 184, 0, 33, 60, 132, 2, 1, 167, 255, 223, 27, 172]
abbrev dktX2_youngest_1 : List UInt8 := dkwX2_youngest_1 ++ []
def dkwX2_youngest_0 : List UInt8 := [3, 60, 3, 61, 28, 42, 185, 0, 47, 1, 0, 162, 0, 29, 27, 42, 28, 185, 0, 51, 2, 0]
abbrev dktX2_youngest_0 : List UInt8 := dkwX2_youngest_0 ++ dktX2_youngest_1
theorem dksX2_youngest_0 : cX2_youngest.data.toList.drop 0 = dktX2_youngest_0 := by decide +kernel
theorem dksX2_youngest_1 : cX2_youngest.data.toList.drop 22 = dktX2_youngest_1 := dk_seg dksX2_youngest_0 22 rfl rfl
theorem dX2_youngest_0 : decode cX2_youngest 0 = .ok (.iconst 0, 1) := dk_3 (dk_at dksX2_youngest_0 0 rfl rfl)
theorem dX2_youngest_1 : decode cX2_youngest 1 = .ok (.istore_n 1, 1) := dk_60 (dk_at dksX2_youngest_0 1 rfl rfl)
theorem dX2_youngest_2 : decode cX2_youngest 2 = .ok (.iconst 0, 1) := dk_3 (dk_at dksX2_youngest_0 2 rfl rfl)
theorem dX2_youngest_3 : decode cX2_youngest 3 = .ok (.istore_n 2, 1) := dk_61 (dk_at dksX2_youngest_0 3 rfl rfl)
theorem dX2_youngest_4 : decode cX2_youngest 4 = .ok (.iload_n 2, 1) := dk_28 (dk_at dksX2_youngest_0 4 rfl rfl)
theorem dX2_youngest_5 : decode cX2_youngest 5 = .ok (.aload_n 0, 1) := dk_42 (dk_at dksX2_youngest_0 5 rfl rfl)
theorem dX2_youngest_6 : decode cX2_youngest 6 = .ok (.invokeinterface 47 1, 5) := by decide +kernel
theorem dX2_youngest_11 : decode cX2_youngest 11 = .ok (.if_icmp .ge 29, 3) := dk_162 0 29 (dk_at dksX2_youngest_0 11 rfl rfl)
theorem dX2_youngest_14 : decode cX2_youngest 14 = .ok (.iload_n 1, 1) := dk_27 (dk_at dksX2_youngest_0 14 rfl rfl)
theorem dX2_youngest_15 : decode cX2_youngest 15 = .ok (.aload_n 0, 1) := dk_42 (dk_at dksX2_youngest_0 15 rfl rfl)
theorem dX2_youngest_16 : decode cX2_youngest 16 = .ok (.iload_n 2, 1) := dk_28 (dk_at dksX2_youngest_0 16 rfl rfl)
theorem dX2_youngest_17 : decode cX2_youngest 17 = .ok (.invokeinterface 51 2, 5) := by decide +kernel
theorem dX2_youngest_22 : decode cX2_youngest 22 = .ok (.checkcast 13, 3) := dk_192 0 13 (dk_at dksX2_youngest_1 0 rfl rfl)
theorem dX2_youngest_25 : decode cX2_youngest 25 = .ok (.getfield 39, 3) := dk_180 0 39 (dk_at dksX2_youngest_1 3 rfl rfl)
theorem dX2_youngest_28 : decode cX2_youngest 28 = .ok (.iconst 1, 1) := dk_4 (dk_at dksX2_youngest_1 6 rfl rfl)
theorem dX2_youngest_29 : decode cX2_youngest 29 = .ok (.iadd, 1) := dk_96 (dk_at dksX2_youngest_1 7 rfl rfl)
theorem dX2_youngest_30 : decode cX2_youngest 30 = .ok (.invokestatic 33, 3) := dk_184 0 33 (dk_at dksX2_youngest_1 8 rfl rfl)
theorem dX2_youngest_33 : decode cX2_youngest 33 = .ok (.istore_n 1, 1) := dk_60 (dk_at dksX2_youngest_1 11 rfl rfl)
theorem dX2_youngest_34 : decode cX2_youngest 34 = .ok (.iinc 2 1, 3) := dk_132 2 1 (dk_at dksX2_youngest_1 12 rfl rfl)
theorem dX2_youngest_37 : decode cX2_youngest 37 = .ok (.goto (-33), 3) := dk_167 255 223 (dk_at dksX2_youngest_1 15 rfl rfl)
theorem dX2_youngest_40 : decode cX2_youngest 40 = .ok (.iload_n 1, 1) := dk_27 (dk_at dksX2_youngest_1 18 rfl rfl)
theorem dX2_youngest_41 : decode cX2_youngest 41 = .ok (.ireturn, 1) := dk_172 (dk_at dksX2_youngest_1 19 rfl rfl)
abbrev cX2_options : ByteArray := prog_6_method_6_code
def yX2_options : MethodName := ⟨RX2, "options", "(I)Ljava/util/List;"⟩
def dkwX2_options_0 : List UInt8 := [27, 154, 0, 10, 42, 180, 0, 12, 167, 0, 7, 42, 180, 0, 18, 176]
abbrev dktX2_options_0 : List UInt8 := dkwX2_options_0 ++ []
theorem dksX2_options_0 : cX2_options.data.toList.drop 0 = dktX2_options_0 := by decide +kernel
theorem dX2_options_0 : decode cX2_options 0 = .ok (.iload_n 1, 1) := dk_27 (dk_at dksX2_options_0 0 rfl rfl)
theorem dX2_options_1 : decode cX2_options 1 = .ok (.ifCond .ne 10, 3) := dk_154 0 10 (dk_at dksX2_options_0 1 rfl rfl)
theorem dX2_options_4 : decode cX2_options 4 = .ok (.aload_n 0, 1) := dk_42 (dk_at dksX2_options_0 4 rfl rfl)
theorem dX2_options_5 : decode cX2_options 5 = .ok (.getfield 12, 3) := dk_180 0 12 (dk_at dksX2_options_0 5 rfl rfl)
theorem dX2_options_8 : decode cX2_options 8 = .ok (.goto 7, 3) := dk_167 0 7 (dk_at dksX2_options_0 8 rfl rfl)
theorem dX2_options_11 : decode cX2_options 11 = .ok (.aload_n 0, 1) := dk_42 (dk_at dksX2_options_0 11 rfl rfl)
theorem dX2_options_12 : decode cX2_options 12 = .ok (.getfield 18, 3) := dk_180 0 18 (dk_at dksX2_options_0 12 rfl rfl)
theorem dX2_options_15 : decode cX2_options 15 = .ok (.areturn, 1) := dk_176 (dk_at dksX2_options_0 15 rfl rfl)
abbrev cX2_compareTo : ByteArray := prog_6_method_7_code
def yX2_compareTo : MethodName := ⟨RX2, "compareTo", "(LGameCalculator$Game;)I"⟩
def dkwX2_compareTo_2 : List UInt8 := [167, 0, 14, 42, 180, 0, 18, 43, 180, 0, 18, 184, 0, 59, 172]
abbrev dktX2_compareTo_2 : List UInt8 := dkwX2_compareTo_2 ++ []
def dkwX2_compareTo_1 : List UInt8 := [180, 0, 39, 100, 172, 42, 180, 0, 12, 43, 180, 0, 12, 184, 0, 59, 61, 28, 153, 0, 7, 28]
abbrev dktX2_compareTo_1 : List UInt8 := dkwX2_compareTo_1 ++ dktX2_compareTo_2
def dkwX2_compareTo_0 : List UInt8 := [42, 43, 166, 0, 5, 3, 172, 42, 180, 0, 39, 43, 180, 0, 39, 159, 0, 13, 42, 180, 0, 39, 43]
abbrev dktX2_compareTo_0 : List UInt8 := dkwX2_compareTo_0 ++ dktX2_compareTo_1
theorem dksX2_compareTo_0 : cX2_compareTo.data.toList.drop 0 = dktX2_compareTo_0 := by decide +kernel
theorem dksX2_compareTo_1 : cX2_compareTo.data.toList.drop 23 = dktX2_compareTo_1 := dk_seg dksX2_compareTo_0 23 rfl rfl
theorem dksX2_compareTo_2 : cX2_compareTo.data.toList.drop 45 = dktX2_compareTo_2 := dk_seg dksX2_compareTo_1 22 rfl rfl
theorem dX2_compareTo_0 : decode cX2_compareTo 0 = .ok (.aload_n 0, 1) := dk_42 (dk_at dksX2_compareTo_0 0 rfl rfl)
theorem dX2_compareTo_1 : decode cX2_compareTo 1 = .ok (.aload_n 1, 1) := dk_43 (dk_at dksX2_compareTo_0 1 rfl rfl)
theorem dX2_compareTo_2 : decode cX2_compareTo 2 = .ok (.if_acmp .ne 5, 3) := dk_166 0 5 (dk_at dksX2_compareTo_0 2 rfl rfl)
theorem dX2_compareTo_5 : decode cX2_compareTo 5 = .ok (.iconst 0, 1) := dk_3 (dk_at dksX2_compareTo_0 5 rfl rfl)
theorem dX2_compareTo_6 : decode cX2_compareTo 6 = .ok (.ireturn, 1) := dk_172 (dk_at dksX2_compareTo_0 6 rfl rfl)
theorem dX2_compareTo_7 : decode cX2_compareTo 7 = .ok (.aload_n 0, 1) := dk_42 (dk_at dksX2_compareTo_0 7 rfl rfl)
theorem dX2_compareTo_8 : decode cX2_compareTo 8 = .ok (.getfield 39, 3) := dk_180 0 39 (dk_at dksX2_compareTo_0 8 rfl rfl)
theorem dX2_compareTo_11 : decode cX2_compareTo 11 = .ok (.aload_n 1, 1) := dk_43 (dk_at dksX2_compareTo_0 11 rfl rfl)
theorem dX2_compareTo_12 : decode cX2_compareTo 12 = .ok (.getfield 39, 3) := dk_180 0 39 (dk_at dksX2_compareTo_0 12 rfl rfl)
theorem dX2_compareTo_15 : decode cX2_compareTo 15 = .ok (.if_icmp .eq 13, 3) := dk_159 0 13 (dk_at dksX2_compareTo_0 15 rfl rfl)
theorem dX2_compareTo_18 : decode cX2_compareTo 18 = .ok (.aload_n 0, 1) := dk_42 (dk_at dksX2_compareTo_0 18 rfl rfl)
theorem dX2_compareTo_19 : decode cX2_compareTo 19 = .ok (.getfield 39, 3) := dk_180 0 39 (dk_at dksX2_compareTo_0 19 rfl rfl)
theorem dX2_compareTo_22 : decode cX2_compareTo 22 = .ok (.aload_n 1, 1) := dk_43 (dk_at dksX2_compareTo_0 22 rfl rfl)
theorem dX2_compareTo_23 : decode cX2_compareTo 23 = .ok (.getfield 39, 3) := dk_180 0 39 (dk_at dksX2_compareTo_1 0 rfl rfl)
theorem dX2_compareTo_26 : decode cX2_compareTo 26 = .ok (.isub, 1) := dk_100 (dk_at dksX2_compareTo_1 3 rfl rfl)
theorem dX2_compareTo_27 : decode cX2_compareTo 27 = .ok (.ireturn, 1) := dk_172 (dk_at dksX2_compareTo_1 4 rfl rfl)
theorem dX2_compareTo_28 : decode cX2_compareTo 28 = .ok (.aload_n 0, 1) := dk_42 (dk_at dksX2_compareTo_1 5 rfl rfl)
theorem dX2_compareTo_29 : decode cX2_compareTo 29 = .ok (.getfield 12, 3) := dk_180 0 12 (dk_at dksX2_compareTo_1 6 rfl rfl)
theorem dX2_compareTo_32 : decode cX2_compareTo 32 = .ok (.aload_n 1, 1) := dk_43 (dk_at dksX2_compareTo_1 9 rfl rfl)
theorem dX2_compareTo_33 : decode cX2_compareTo 33 = .ok (.getfield 12, 3) := dk_180 0 12 (dk_at dksX2_compareTo_1 10 rfl rfl)
theorem dX2_compareTo_36 : decode cX2_compareTo 36 = .ok (.invokestatic 59, 3) := dk_184 0 59 (dk_at dksX2_compareTo_1 13 rfl rfl)
theorem dX2_compareTo_39 : decode cX2_compareTo 39 = .ok (.istore_n 2, 1) := dk_61 (dk_at dksX2_compareTo_1 16 rfl rfl)
theorem dX2_compareTo_40 : decode cX2_compareTo 40 = .ok (.iload_n 2, 1) := dk_28 (dk_at dksX2_compareTo_1 17 rfl rfl)
theorem dX2_compareTo_41 : decode cX2_compareTo 41 = .ok (.ifCond .eq 7, 3) := dk_153 0 7 (dk_at dksX2_compareTo_1 18 rfl rfl)
theorem dX2_compareTo_44 : decode cX2_compareTo 44 = .ok (.iload_n 2, 1) := dk_28 (dk_at dksX2_compareTo_1 21 rfl rfl)
theorem dX2_compareTo_45 : decode cX2_compareTo 45 = .ok (.goto 14, 3) := dk_167 0 14 (dk_at dksX2_compareTo_2 0 rfl rfl)
theorem dX2_compareTo_48 : decode cX2_compareTo 48 = .ok (.aload_n 0, 1) := dk_42 (dk_at dksX2_compareTo_2 3 rfl rfl)
theorem dX2_compareTo_49 : decode cX2_compareTo 49 = .ok (.getfield 18, 3) := dk_180 0 18 (dk_at dksX2_compareTo_2 4 rfl rfl)
theorem dX2_compareTo_52 : decode cX2_compareTo 52 = .ok (.aload_n 1, 1) := dk_43 (dk_at dksX2_compareTo_2 7 rfl rfl)
theorem dX2_compareTo_53 : decode cX2_compareTo 53 = .ok (.getfield 18, 3) := dk_180 0 18 (dk_at dksX2_compareTo_2 8 rfl rfl)
theorem dX2_compareTo_56 : decode cX2_compareTo 56 = .ok (.invokestatic 59, 3) := dk_184 0 59 (dk_at dksX2_compareTo_2 11 rfl rfl)
theorem dX2_compareTo_59 : decode cX2_compareTo 59 = .ok (.ireturn, 1) := dk_172 (dk_at dksX2_compareTo_2 14 rfl rfl)
abbrev cX2_compare : ByteArray := prog_6_method_8_code
def yX2_compare : MethodName := ⟨RX2, "compare", "(Ljava/util/List;Ljava/util/List;)I"⟩
def dkwX2_compare_3 : List UInt8 := [172]
abbrev dktX2_compare_3 : List UInt8 := dkwX2_compare_3 ++ []
def dkwX2_compare_2 : List UInt8 := [153, 0, 5, 29, 172, 132, 2, 1, 167, 255, 204, 42, 185, 0, 47, 1, 0, 43, 185, 0, 47, 1, 0, 100]
abbrev dktX2_compare_2 : List UInt8 := dkwX2_compare_2 ++ dktX2_compare_3
def dkwX2_compare_1 : List UInt8 := [185, 0, 51, 2, 0, 192, 0, 13, 43, 28, 185, 0, 51, 2, 0, 192, 0, 13, 182, 0, 66, 62, 29]
abbrev dktX2_compare_1 : List UInt8 := dkwX2_compare_1 ++ dktX2_compare_2
def dkwX2_compare_0 : List UInt8 := [3, 61, 28, 42, 185, 0, 47, 1, 0, 43, 185, 0, 47, 1, 0, 184, 0, 63, 162, 0, 39, 42, 28]
abbrev dktX2_compare_0 : List UInt8 := dkwX2_compare_0 ++ dktX2_compare_1
theorem dksX2_compare_0 : cX2_compare.data.toList.drop 0 = dktX2_compare_0 := by decide +kernel
theorem dksX2_compare_1 : cX2_compare.data.toList.drop 23 = dktX2_compare_1 := dk_seg dksX2_compare_0 23 rfl rfl
theorem dksX2_compare_2 : cX2_compare.data.toList.drop 46 = dktX2_compare_2 := dk_seg dksX2_compare_1 23 rfl rfl
theorem dksX2_compare_3 : cX2_compare.data.toList.drop 70 = dktX2_compare_3 := dk_seg dksX2_compare_2 24 rfl rfl
theorem dX2_compare_0 : decode cX2_compare 0 = .ok (.iconst 0, 1) := dk_3 (dk_at dksX2_compare_0 0 rfl rfl)
theorem dX2_compare_1 : decode cX2_compare 1 = .ok (.istore_n 2, 1) := dk_61 (dk_at dksX2_compare_0 1 rfl rfl)
theorem dX2_compare_2 : decode cX2_compare 2 = .ok (.iload_n 2, 1) := dk_28 (dk_at dksX2_compare_0 2 rfl rfl)
theorem dX2_compare_3 : decode cX2_compare 3 = .ok (.aload_n 0, 1) := dk_42 (dk_at dksX2_compare_0 3 rfl rfl)
theorem dX2_compare_4 : decode cX2_compare 4 = .ok (.invokeinterface 47 1, 5) := by decide +kernel
theorem dX2_compare_9 : decode cX2_compare 9 = .ok (.aload_n 1, 1) := dk_43 (dk_at dksX2_compare_0 9 rfl rfl)
theorem dX2_compare_10 : decode cX2_compare 10 = .ok (.invokeinterface 47 1, 5) := by decide +kernel
theorem dX2_compare_15 : decode cX2_compare 15 = .ok (.invokestatic 63, 3) := dk_184 0 63 (dk_at dksX2_compare_0 15 rfl rfl)
theorem dX2_compare_18 : decode cX2_compare 18 = .ok (.if_icmp .ge 39, 3) := dk_162 0 39 (dk_at dksX2_compare_0 18 rfl rfl)
theorem dX2_compare_21 : decode cX2_compare 21 = .ok (.aload_n 0, 1) := dk_42 (dk_at dksX2_compare_0 21 rfl rfl)
theorem dX2_compare_22 : decode cX2_compare 22 = .ok (.iload_n 2, 1) := dk_28 (dk_at dksX2_compare_0 22 rfl rfl)
theorem dX2_compare_23 : decode cX2_compare 23 = .ok (.invokeinterface 51 2, 5) := by decide +kernel
theorem dX2_compare_28 : decode cX2_compare 28 = .ok (.checkcast 13, 3) := dk_192 0 13 (dk_at dksX2_compare_1 5 rfl rfl)
theorem dX2_compare_31 : decode cX2_compare 31 = .ok (.aload_n 1, 1) := dk_43 (dk_at dksX2_compare_1 8 rfl rfl)
theorem dX2_compare_32 : decode cX2_compare 32 = .ok (.iload_n 2, 1) := dk_28 (dk_at dksX2_compare_1 9 rfl rfl)
theorem dX2_compare_33 : decode cX2_compare 33 = .ok (.invokeinterface 51 2, 5) := by decide +kernel
theorem dX2_compare_38 : decode cX2_compare 38 = .ok (.checkcast 13, 3) := dk_192 0 13 (dk_at dksX2_compare_1 15 rfl rfl)
theorem dX2_compare_41 : decode cX2_compare 41 = .ok (.invokevirtual 66, 3) := dk_182 0 66 (dk_at dksX2_compare_1 18 rfl rfl)
theorem dX2_compare_44 : decode cX2_compare 44 = .ok (.istore_n 3, 1) := dk_62 (dk_at dksX2_compare_1 21 rfl rfl)
theorem dX2_compare_45 : decode cX2_compare 45 = .ok (.iload_n 3, 1) := dk_29 (dk_at dksX2_compare_1 22 rfl rfl)
theorem dX2_compare_46 : decode cX2_compare 46 = .ok (.ifCond .eq 5, 3) := dk_153 0 5 (dk_at dksX2_compare_2 0 rfl rfl)
theorem dX2_compare_49 : decode cX2_compare 49 = .ok (.iload_n 3, 1) := dk_29 (dk_at dksX2_compare_2 3 rfl rfl)
theorem dX2_compare_50 : decode cX2_compare 50 = .ok (.ireturn, 1) := dk_172 (dk_at dksX2_compare_2 4 rfl rfl)
theorem dX2_compare_51 : decode cX2_compare 51 = .ok (.iinc 2 1, 3) := dk_132 2 1 (dk_at dksX2_compare_2 5 rfl rfl)
theorem dX2_compare_54 : decode cX2_compare 54 = .ok (.goto (-52), 3) := dk_167 255 204 (dk_at dksX2_compare_2 8 rfl rfl)
theorem dX2_compare_57 : decode cX2_compare 57 = .ok (.aload_n 0, 1) := dk_42 (dk_at dksX2_compare_2 11 rfl rfl)
theorem dX2_compare_58 : decode cX2_compare 58 = .ok (.invokeinterface 47 1, 5) := by decide +kernel
theorem dX2_compare_63 : decode cX2_compare 63 = .ok (.aload_n 1, 1) := dk_43 (dk_at dksX2_compare_2 17 rfl rfl)
theorem dX2_compare_64 : decode cX2_compare 64 = .ok (.invokeinterface 47 1, 5) := by decide +kernel
theorem dX2_compare_69 : decode cX2_compare 69 = .ok (.isub, 1) := dk_100 (dk_at dksX2_compare_2 23 rfl rfl)
theorem dX2_compare_70 : decode cX2_compare 70 = .ok (.ireturn, 1) := dk_172 (dk_at dksX2_compare_3 0 rfl rfl)
abbrev cX2_stand : ByteArray := prog_6_method_4_code
def yX2_stand : MethodName := ⟨RX2, "stand", "(Ljava/util/List;Ljava/util/List;)V"⟩
def dkwX2_stand_1 : List UInt8 := [184, 0, 29, 184, 0, 33, 181, 0, 39, 177]
abbrev dktX2_stand_1 : List UInt8 := dkwX2_stand_1 ++ []
def dkwX2_stand_0 : List UInt8 := [42, 43, 181, 0, 12, 42, 44, 181, 0, 18, 42, 42, 180, 0, 12, 184, 0, 29, 42, 180, 0, 18]
abbrev dktX2_stand_0 : List UInt8 := dkwX2_stand_0 ++ dktX2_stand_1
theorem dksX2_stand_0 : cX2_stand.data.toList.drop 0 = dktX2_stand_0 := by decide +kernel
theorem dksX2_stand_1 : cX2_stand.data.toList.drop 22 = dktX2_stand_1 := dk_seg dksX2_stand_0 22 rfl rfl
theorem dX2_stand_0 : decode cX2_stand 0 = .ok (.aload_n 0, 1) := dk_42 (dk_at dksX2_stand_0 0 rfl rfl)
theorem dX2_stand_1 : decode cX2_stand 1 = .ok (.aload_n 1, 1) := dk_43 (dk_at dksX2_stand_0 1 rfl rfl)
theorem dX2_stand_2 : decode cX2_stand 2 = .ok (.putfield 12, 3) := dk_181 0 12 (dk_at dksX2_stand_0 2 rfl rfl)
theorem dX2_stand_5 : decode cX2_stand 5 = .ok (.aload_n 0, 1) := dk_42 (dk_at dksX2_stand_0 5 rfl rfl)
theorem dX2_stand_6 : decode cX2_stand 6 = .ok (.aload_n 2, 1) := dk_44 (dk_at dksX2_stand_0 6 rfl rfl)
theorem dX2_stand_7 : decode cX2_stand 7 = .ok (.putfield 18, 3) := dk_181 0 18 (dk_at dksX2_stand_0 7 rfl rfl)
theorem dX2_stand_10 : decode cX2_stand 10 = .ok (.aload_n 0, 1) := dk_42 (dk_at dksX2_stand_0 10 rfl rfl)
theorem dX2_stand_11 : decode cX2_stand 11 = .ok (.aload_n 0, 1) := dk_42 (dk_at dksX2_stand_0 11 rfl rfl)
theorem dX2_stand_12 : decode cX2_stand 12 = .ok (.getfield 12, 3) := dk_180 0 12 (dk_at dksX2_stand_0 12 rfl rfl)
theorem dX2_stand_15 : decode cX2_stand 15 = .ok (.invokestatic 29, 3) := dk_184 0 29 (dk_at dksX2_stand_0 15 rfl rfl)
theorem dX2_stand_18 : decode cX2_stand 18 = .ok (.aload_n 0, 1) := dk_42 (dk_at dksX2_stand_0 18 rfl rfl)
theorem dX2_stand_19 : decode cX2_stand 19 = .ok (.getfield 18, 3) := dk_180 0 18 (dk_at dksX2_stand_0 19 rfl rfl)
theorem dX2_stand_22 : decode cX2_stand 22 = .ok (.invokestatic 29, 3) := dk_184 0 29 (dk_at dksX2_stand_1 0 rfl rfl)
theorem dX2_stand_25 : decode cX2_stand 25 = .ok (.invokestatic 33, 3) := dk_184 0 33 (dk_at dksX2_stand_1 3 rfl rfl)
theorem dX2_stand_28 : decode cX2_stand 28 = .ok (.putfield 39, 3) := dk_181 0 39 (dk_at dksX2_stand_1 6 rfl rfl)
theorem dX2_stand_31 : decode cX2_stand 31 = .ok (.return_, 1) := dk_177 (dk_at dksX2_stand_1 9 rfl rfl)
theorem q137 : (Jvm.Cond.initialized "GameCalculator$Game") ∈ lw_all := lw_g (lw_at lw_m1 6 rfl) rfl
theorem q232 : (Jvm.Cond.instantiable "GameCalculator$Game" (4 : Nat)) ∈ lw_all := lw_g (lw_at lw_m1 101 rfl) rfl
theorem q234 : (Jvm.Cond.instanceMethod ({ cls := "GameCalculator$Game", name := "<init>", desc := "(I)V" } : Jvm.MethodName)) ∈ lw_all := lw_g (lw_at lw_m1 103 rfl) rfl
theorem q235 : (Jvm.Cond.code ({ cls := "GameCalculator$Game", name := "<init>", desc := "(I)V" } : Jvm.MethodName) prog_6_method_1_code (2 : Nat) (Option.none : Option Jvm.ClassFile.FieldType)) ∈ lw_all := lw_g (lw_at lw_m1 104 rfl) rfl
theorem q236 : (Jvm.Cond.methodLink "GameCalculator$Game" (3 : Nat) ({ cls := "java/lang/Object", name := "<init>", desc := "()V" } : Jvm.MethodName)) ∈ lw_all := lw_g (lw_at lw_m1 105 rfl) rfl
theorem q237 : (Jvm.Cond.classLink "GameCalculator$Game" (9 : Nat) "java/util/ArrayList") ∈ lw_all := lw_g (lw_at lw_m1 106 rfl) rfl
theorem q238 : (Jvm.Cond.methodLink "GameCalculator$Game" (11 : Nat) ({ cls := "java/util/ArrayList", name := "<init>", desc := "()V" } : Jvm.MethodName)) ∈ lw_all := lw_g (lw_at lw_m1 107 rfl) rfl
theorem q239 : (Jvm.Cond.fieldLink "GameCalculator$Game" (21 : Nat) "GameCalculator$Game" "id" "I") ∈ lw_all := lw_g (lw_at lw_m1 108 rfl) rfl
theorem q241 : (Jvm.Cond.fieldLink "GameCalculator$Game" (12 : Nat) "GameCalculator$Game" "left" "Ljava/util/List;") ∈ lw_all := lw_g (lw_at lw_m1 110 rfl) rfl
theorem q244 : (Jvm.Cond.fieldLink "GameCalculator$Game" (18 : Nat) "GameCalculator$Game" "right" "Ljava/util/List;") ∈ lw_all := lw_g (lw_at lw_m1 113 rfl) rfl
theorem q247 : (Jvm.Cond.fieldLink "GameCalculator$Game" (39 : Nat) "GameCalculator$Game" "birthday" "I") ∈ lw_all := lw_g (lw_at lw_m1 116 rfl) rfl
theorem q249 : (Jvm.Cond.laysFinal "GameCalculator$Game" "GameCalculator$Game" "id" "I") ∈ lw_all := lw_g (lw_at lw_m1 118 rfl) rfl
theorem q250 : (Jvm.Cond.soleField "GameCalculator$Game" "id") ∈ lw_all := lw_g (lw_at lw_m1 119 rfl) rfl
theorem q251 : (Jvm.Cond.lays "GameCalculator$Game" "GameCalculator$Game" "left" "Ljava/util/List;") ∈ lw_all := lw_g (lw_at lw_m1 120 rfl) rfl
theorem q252 : (Jvm.Cond.soleField "GameCalculator$Game" "left") ∈ lw_all := lw_g (lw_at lw_m1 121 rfl) rfl
theorem q253 : (Jvm.Cond.lays "GameCalculator$Game" "GameCalculator$Game" "right" "Ljava/util/List;") ∈ lw_all := lw_g (lw_at lw_m1 122 rfl) rfl
theorem q254 : (Jvm.Cond.soleField "GameCalculator$Game" "right") ∈ lw_all := lw_g (lw_at lw_m1 123 rfl) rfl
theorem q255 : (Jvm.Cond.lays "GameCalculator$Game" "GameCalculator$Game" "birthday" "I") ∈ lw_all := lw_g (lw_at lw_m1 124 rfl) rfl
theorem q256 : (Jvm.Cond.soleField "GameCalculator$Game" "birthday") ∈ lw_all := lw_g (lw_at lw_m1 125 rfl) rfl
theorem q257 : (Jvm.Cond.superclass "GameCalculator$Game" "java/lang/Object") ∈ lw_all := lw_g (lw_at lw_m1 126 rfl) rfl
theorem q771 : (Jvm.Cond.instanceMethod ({ cls := "GameCalculator$Game", name := "hasOptions", desc := "(Ljava/util/List;Ljava/util/List;)Z" } : Jvm.MethodName)) ∈ lw_all := lw_g (lw_at lw_m3 160 rfl) rfl
theorem q772 : (Jvm.Cond.selects "GameCalculator$Game" ({ cls := "GameCalculator$Game", name := "hasOptions", desc := "(Ljava/util/List;Ljava/util/List;)Z" } : Jvm.MethodName) ({ cls := "GameCalculator$Game", name := "hasOptions", desc := "(Ljava/util/List;Ljava/util/List;)Z" } : Jvm.MethodName)) ∈ lw_all := lw_g (lw_at lw_m3 161 rfl) rfl
theorem q773 : (Jvm.Cond.code ({ cls := "GameCalculator$Game", name := "hasOptions", desc := "(Ljava/util/List;Ljava/util/List;)Z" } : Jvm.MethodName) prog_6_method_9_code (3 : Nat) (Option.some Jvm.ClassFile.FieldType.boolean)) ∈ lw_all := lw_g (lw_at lw_m3 162 rfl) rfl
theorem q774 : (Jvm.Cond.methodLink "GameCalculator$Game" (70 : Nat) ({ cls := "GameCalculator$Game", name := "areSame", desc := "(Ljava/util/List;Ljava/util/List;)Z" } : Jvm.MethodName)) ∈ lw_all := lw_g (lw_at lw_m3 163 rfl) rfl
theorem q775 : (Jvm.Cond.static ({ cls := "GameCalculator$Game", name := "areSame", desc := "(Ljava/util/List;Ljava/util/List;)Z" } : Jvm.MethodName)) ∈ lw_all := lw_g (lw_at lw_m3 164 rfl) rfl
theorem q776 : (Jvm.Cond.code ({ cls := "GameCalculator$Game", name := "areSame", desc := "(Ljava/util/List;Ljava/util/List;)Z" } : Jvm.MethodName) prog_6_method_10_code (4 : Nat) (Option.some Jvm.ClassFile.FieldType.boolean)) ∈ lw_all := lw_g (lw_at lw_m3 165 rfl) rfl
theorem q777 : (Jvm.Cond.interfaceEntry "GameCalculator$Game" (47 : Nat)) ∈ lw_tbl := lw_at lw_m3 166 rfl
theorem q778 : (Jvm.Cond.methodLink "GameCalculator$Game" (47 : Nat) ({ cls := "java/util/List", name := "size", desc := "()I" } : Jvm.MethodName)) ∈ lw_all := lw_g (lw_at lw_m3 167 rfl) rfl
theorem q779 : (Jvm.Cond.interfaceEntry "GameCalculator$Game" (51 : Nat)) ∈ lw_tbl := lw_at lw_m3 168 rfl
theorem q780 : (Jvm.Cond.methodLink "GameCalculator$Game" (51 : Nat) ({ cls := "java/util/List", name := "get", desc := "(I)Ljava/lang/Object;" } : Jvm.MethodName)) ∈ lw_all := lw_g (lw_at lw_m3 169 rfl) rfl
theorem q820 : (Jvm.Cond.selects "GameCalculator$Game" ({ cls := "java/lang/Object", name := "getClass", desc := "()Ljava/lang/Class;" } : Jvm.MethodName) ({ cls := "java/lang/Object", name := "getClass", desc := "()Ljava/lang/Class;" } : Jvm.MethodName)) ∈ lw_all := lw_g (lw_at lw_m3 209 rfl) rfl
theorem q891 : (Jvm.Cond.instanceMethod ({ cls := "GameCalculator$Game", name := "fill", desc := "(Ljava/util/List;Ljava/util/List;)V" } : Jvm.MethodName)) ∈ lw_all := lw_g (lw_at lw_m4 40 rfl) rfl
theorem q892 : (Jvm.Cond.selects "GameCalculator$Game" ({ cls := "GameCalculator$Game", name := "fill", desc := "(Ljava/util/List;Ljava/util/List;)V" } : Jvm.MethodName) ({ cls := "GameCalculator$Game", name := "fill", desc := "(Ljava/util/List;Ljava/util/List;)V" } : Jvm.MethodName)) ∈ lw_all := lw_g (lw_at lw_m4 41 rfl) rfl
theorem q893 : (Jvm.Cond.code ({ cls := "GameCalculator$Game", name := "fill", desc := "(Ljava/util/List;Ljava/util/List;)V" } : Jvm.MethodName) prog_6_method_2_code (3 : Nat) (Option.none : Option Jvm.ClassFile.FieldType)) ∈ lw_all := lw_g (lw_at lw_m4 42 rfl) rfl
theorem q894 : (Jvm.Cond.methodLink "GameCalculator$Game" (25 : Nat) ({ cls := "GameCalculator$Game", name := "lay", desc := "(Ljava/util/List;Ljava/util/List;)V" } : Jvm.MethodName)) ∈ lw_all := lw_g (lw_at lw_m4 43 rfl) rfl
theorem q895 : (Jvm.Cond.static ({ cls := "GameCalculator$Game", name := "lay", desc := "(Ljava/util/List;Ljava/util/List;)V" } : Jvm.MethodName)) ∈ lw_all := lw_g (lw_at lw_m4 44 rfl) rfl
theorem q896 : (Jvm.Cond.code ({ cls := "GameCalculator$Game", name := "lay", desc := "(Ljava/util/List;Ljava/util/List;)V" } : Jvm.MethodName) prog_6_method_3_code (3 : Nat) (Option.none : Option Jvm.ClassFile.FieldType)) ∈ lw_all := lw_g (lw_at lw_m4 45 rfl) rfl
theorem q897 : (Jvm.Cond.interfaceEntry "GameCalculator$Game" (42 : Nat)) ∈ lw_tbl := lw_at lw_m4 46 rfl
theorem q898 : (Jvm.Cond.methodLink "GameCalculator$Game" (42 : Nat) ({ cls := "java/util/List", name := "clear", desc := "()V" } : Jvm.MethodName)) ∈ lw_all := lw_g (lw_at lw_m4 47 rfl) rfl
theorem q899 : (Jvm.Cond.classLink "GameCalculator$Game" (13 : Nat) "GameCalculator$Game") ∈ lw_all := lw_g (lw_at lw_m4 48 rfl) rfl
theorem q900 : (Jvm.Cond.interfaceEntry "GameCalculator$Game" (55 : Nat)) ∈ lw_tbl := lw_at lw_m4 49 rfl
theorem q901 : (Jvm.Cond.methodLink "GameCalculator$Game" (55 : Nat) ({ cls := "java/util/List", name := "add", desc := "(Ljava/lang/Object;)Z" } : Jvm.MethodName)) ∈ lw_all := lw_g (lw_at lw_m4 50 rfl) rfl
theorem q902 : (Jvm.Cond.methodLink "GameCalculator$Game" (29 : Nat) ({ cls := "GameCalculator$Game", name := "youngest", desc := "(Ljava/util/List;)I" } : Jvm.MethodName)) ∈ lw_all := lw_g (lw_at lw_m4 51 rfl) rfl
theorem q903 : (Jvm.Cond.static ({ cls := "GameCalculator$Game", name := "youngest", desc := "(Ljava/util/List;)I" } : Jvm.MethodName)) ∈ lw_all := lw_g (lw_at lw_m4 52 rfl) rfl
theorem q904 : (Jvm.Cond.code ({ cls := "GameCalculator$Game", name := "youngest", desc := "(Ljava/util/List;)I" } : Jvm.MethodName) prog_6_method_5_code (3 : Nat) (Option.some Jvm.ClassFile.FieldType.int)) ∈ lw_all := lw_g (lw_at lw_m4 53 rfl) rfl
theorem q905 : (Jvm.Cond.methodLink "GameCalculator$Game" (33 : Nat) ({ cls := "java/lang/Math", name := "max", desc := "(II)I" } : Jvm.MethodName)) ∈ lw_all := lw_g (lw_at lw_m4 54 rfl) rfl
theorem q931 : (Jvm.Cond.instanceMethod ({ cls := "GameCalculator$Game", name := "options", desc := "(I)Ljava/util/List;" } : Jvm.MethodName)) ∈ lw_all := lw_g (lw_at lw_m4 80 rfl) rfl
theorem q932 : (Jvm.Cond.selects "GameCalculator$Game" ({ cls := "GameCalculator$Game", name := "options", desc := "(I)Ljava/util/List;" } : Jvm.MethodName) ({ cls := "GameCalculator$Game", name := "options", desc := "(I)Ljava/util/List;" } : Jvm.MethodName)) ∈ lw_all := lw_g (lw_at lw_m4 81 rfl) rfl
theorem q933 : (Jvm.Cond.code ({ cls := "GameCalculator$Game", name := "options", desc := "(I)Ljava/util/List;" } : Jvm.MethodName) prog_6_method_6_code (2 : Nat) (Option.some (Jvm.ClassFile.FieldType.object "java/util/List"))) ∈ lw_all := lw_g (lw_at lw_m4 82 rfl) rfl
theorem q959 : (Jvm.Cond.instanceMethod ({ cls := "GameCalculator$Game", name := "compareTo", desc := "(LGameCalculator$Game;)I" } : Jvm.MethodName)) ∈ lw_all := lw_g (lw_at lw_m4 108 rfl) rfl
theorem q960 : (Jvm.Cond.selects "GameCalculator$Game" ({ cls := "GameCalculator$Game", name := "compareTo", desc := "(LGameCalculator$Game;)I" } : Jvm.MethodName) ({ cls := "GameCalculator$Game", name := "compareTo", desc := "(LGameCalculator$Game;)I" } : Jvm.MethodName)) ∈ lw_all := lw_g (lw_at lw_m4 109 rfl) rfl
theorem q961 : (Jvm.Cond.code ({ cls := "GameCalculator$Game", name := "compareTo", desc := "(LGameCalculator$Game;)I" } : Jvm.MethodName) prog_6_method_7_code (3 : Nat) (Option.some Jvm.ClassFile.FieldType.int)) ∈ lw_all := lw_g (lw_at lw_m4 110 rfl) rfl
theorem q962 : (Jvm.Cond.methodLink "GameCalculator$Game" (59 : Nat) ({ cls := "GameCalculator$Game", name := "compare", desc := "(Ljava/util/List;Ljava/util/List;)I" } : Jvm.MethodName)) ∈ lw_all := lw_g (lw_at lw_m4 111 rfl) rfl
theorem q963 : (Jvm.Cond.static ({ cls := "GameCalculator$Game", name := "compare", desc := "(Ljava/util/List;Ljava/util/List;)I" } : Jvm.MethodName)) ∈ lw_all := lw_g (lw_at lw_m4 112 rfl) rfl
theorem q964 : (Jvm.Cond.code ({ cls := "GameCalculator$Game", name := "compare", desc := "(Ljava/util/List;Ljava/util/List;)I" } : Jvm.MethodName) prog_6_method_8_code (4 : Nat) (Option.some Jvm.ClassFile.FieldType.int)) ∈ lw_all := lw_g (lw_at lw_m4 113 rfl) rfl
theorem q965 : (Jvm.Cond.methodLink "GameCalculator$Game" (63 : Nat) ({ cls := "java/lang/Math", name := "min", desc := "(II)I" } : Jvm.MethodName)) ∈ lw_all := lw_g (lw_at lw_m4 114 rfl) rfl
theorem q966 : (Jvm.Cond.methodLink "GameCalculator$Game" (66 : Nat) ({ cls := "GameCalculator$Game", name := "compareTo", desc := "(LGameCalculator$Game;)I" } : Jvm.MethodName)) ∈ lw_all := lw_g (lw_at lw_m4 115 rfl) rfl
theorem q1081 : (Jvm.Cond.instanceMethod ({ cls := "GameCalculator$Game", name := "stand", desc := "(Ljava/util/List;Ljava/util/List;)V" } : Jvm.MethodName)) ∈ lw_all := lw_g (lw_at lw_m4 230 rfl) rfl
theorem q1082 : (Jvm.Cond.selects "GameCalculator$Game" ({ cls := "GameCalculator$Game", name := "stand", desc := "(Ljava/util/List;Ljava/util/List;)V" } : Jvm.MethodName) ({ cls := "GameCalculator$Game", name := "stand", desc := "(Ljava/util/List;Ljava/util/List;)V" } : Jvm.MethodName)) ∈ lw_all := lw_g (lw_at lw_m4 231 rfl) rfl
theorem q1083 : (Jvm.Cond.code ({ cls := "GameCalculator$Game", name := "stand", desc := "(Ljava/util/List;Ljava/util/List;)V" } : Jvm.MethodName) prog_6_method_4_code (3 : Nat) (Option.none : Option Jvm.ClassFile.FieldType)) ∈ lw_all := lw_g (lw_at lw_m4 232 rfl) rfl
theorem q2996 : (Jvm.Cond.castable "GameCalculator$Game" "java/lang/Object") ∈ lw_tbl := lw_at lw_m12 225 rfl
theorem in_X2 : ∀ w ∈ wsX20, w ∈ lw_all := lw_in wsX20 [249, 251, 253, 255] (by decide +kernel) (by decide +kernel)
/-! GameCalculator$Form -/
set_option maxRecDepth 100000
def RX3 : String := "GameCalculator$Form"
def TX3 : u_T := fun k => match k with
  | 0 => ("GameCalculator$Form", "count", "I", true)
  | 1 => ("GameCalculator$Form", "lefts", "[I", true)
  | _ => ("GameCalculator$Form", "rights", "[I", true)
def tyX3 : Nat → FieldType := fun k => match k with
  | 0 => .int
  | 1 => .array .int
  | _ => .array .int
abbrev wsX30 : List Cond := u_ws RX3 TX3 3
theorem nmX3 : ∀ a, a < 3 → ∀ b, b < 3 → a ≠ b → (TX3 a).2.1 ≠ (TX3 b).2.1 := by decide +kernel
theorem tyX3_ok : ∀ k, k < 3 → parseFieldDescriptor (TX3 k).2.2.1 = some (tyX3 k) := by decide +kernel
abbrev cX3_init : ByteArray := prog_5_method_1_code
def yX3_init : MethodName := ⟨RX3, "<init>", "(I)V"⟩
def dkwX3_init_0 : List UInt8 := [42, 183, 0, 3, 42, 27, 181, 0, 9, 42, 27, 188, 10, 181, 0, 15, 42, 27, 188, 10, 181, 0, 19, 177]
abbrev dktX3_init_0 : List UInt8 := dkwX3_init_0 ++ []
theorem dksX3_init_0 : cX3_init.data.toList.drop 0 = dktX3_init_0 := by decide +kernel
theorem dX3_init_0 : decode cX3_init 0 = .ok (.aload_n 0, 1) := dk_42 (dk_at dksX3_init_0 0 rfl rfl)
theorem dX3_init_1 : decode cX3_init 1 = .ok (.invokespecial 3, 3) := dk_183 0 3 (dk_at dksX3_init_0 1 rfl rfl)
theorem dX3_init_4 : decode cX3_init 4 = .ok (.aload_n 0, 1) := dk_42 (dk_at dksX3_init_0 4 rfl rfl)
theorem dX3_init_5 : decode cX3_init 5 = .ok (.iload_n 1, 1) := dk_27 (dk_at dksX3_init_0 5 rfl rfl)
theorem dX3_init_6 : decode cX3_init 6 = .ok (.putfield 9, 3) := dk_181 0 9 (dk_at dksX3_init_0 6 rfl rfl)
theorem dX3_init_9 : decode cX3_init 9 = .ok (.aload_n 0, 1) := dk_42 (dk_at dksX3_init_0 9 rfl rfl)
theorem dX3_init_10 : decode cX3_init 10 = .ok (.iload_n 1, 1) := dk_27 (dk_at dksX3_init_0 10 rfl rfl)
theorem dX3_init_11 : decode cX3_init 11 = .ok (.newarray .int, 2) := dk_188_10 (dk_at dksX3_init_0 11 rfl rfl)
theorem dX3_init_13 : decode cX3_init 13 = .ok (.putfield 15, 3) := dk_181 0 15 (dk_at dksX3_init_0 13 rfl rfl)
theorem dX3_init_16 : decode cX3_init 16 = .ok (.aload_n 0, 1) := dk_42 (dk_at dksX3_init_0 16 rfl rfl)
theorem dX3_init_17 : decode cX3_init 17 = .ok (.iload_n 1, 1) := dk_27 (dk_at dksX3_init_0 17 rfl rfl)
theorem dX3_init_18 : decode cX3_init 18 = .ok (.newarray .int, 2) := dk_188_10 (dk_at dksX3_init_0 18 rfl rfl)
theorem dX3_init_20 : decode cX3_init 20 = .ok (.putfield 19, 3) := dk_181 0 19 (dk_at dksX3_init_0 20 rfl rfl)
theorem dX3_init_23 : decode cX3_init 23 = .ok (.return_, 1) := dk_177 (dk_at dksX3_init_0 23 rfl rfl)
abbrev cX3_set : ByteArray := prog_5_method_2_code
def yX3_set : MethodName := ⟨RX3, "set", "(II)I"⟩
def dkwX3_set_0 : List UInt8 := [28, 154, 0, 12, 42, 180, 0, 15, 27, 46, 167, 0, 9, 42, 180, 0, 19, 27, 46, 172]
abbrev dktX3_set_0 : List UInt8 := dkwX3_set_0 ++ []
theorem dksX3_set_0 : cX3_set.data.toList.drop 0 = dktX3_set_0 := by decide +kernel
theorem dX3_set_0 : decode cX3_set 0 = .ok (.iload_n 2, 1) := dk_28 (dk_at dksX3_set_0 0 rfl rfl)
theorem dX3_set_1 : decode cX3_set 1 = .ok (.ifCond .ne 12, 3) := dk_154 0 12 (dk_at dksX3_set_0 1 rfl rfl)
theorem dX3_set_4 : decode cX3_set 4 = .ok (.aload_n 0, 1) := dk_42 (dk_at dksX3_set_0 4 rfl rfl)
theorem dX3_set_5 : decode cX3_set 5 = .ok (.getfield 15, 3) := dk_180 0 15 (dk_at dksX3_set_0 5 rfl rfl)
theorem dX3_set_8 : decode cX3_set 8 = .ok (.iload_n 1, 1) := dk_27 (dk_at dksX3_set_0 8 rfl rfl)
theorem dX3_set_9 : decode cX3_set 9 = .ok (.iaload, 1) := dk_46 (dk_at dksX3_set_0 9 rfl rfl)
theorem dX3_set_10 : decode cX3_set 10 = .ok (.goto 9, 3) := dk_167 0 9 (dk_at dksX3_set_0 10 rfl rfl)
theorem dX3_set_13 : decode cX3_set 13 = .ok (.aload_n 0, 1) := dk_42 (dk_at dksX3_set_0 13 rfl rfl)
theorem dX3_set_14 : decode cX3_set 14 = .ok (.getfield 19, 3) := dk_180 0 19 (dk_at dksX3_set_0 14 rfl rfl)
theorem dX3_set_17 : decode cX3_set 17 = .ok (.iload_n 1, 1) := dk_27 (dk_at dksX3_set_0 17 rfl rfl)
theorem dX3_set_18 : decode cX3_set 18 = .ok (.iaload, 1) := dk_46 (dk_at dksX3_set_0 18 rfl rfl)
theorem dX3_set_19 : decode cX3_set 19 = .ok (.ireturn, 1) := dk_172 (dk_at dksX3_set_0 19 rfl rfl)
abbrev cX3_isLike : ByteArray := prog_5_method_3_code
def yX3_isLike : MethodName := ⟨RX3, "isLike", "(LGameCalculator$Form;)Z"⟩
def dkwX3_isLike_3 : List UInt8 := [167, 255, 205, 28, 172]
abbrev dktX3_isLike_3 : List UInt8 := dkwX3_isLike_3 ++ []
def dkwX3_isLike_2 : List UInt8 := [180, 0, 19, 29, 46, 43, 180, 0, 19, 29, 46, 160, 0, 7, 4, 167, 0, 4, 3, 61, 132, 3, 1]
abbrev dktX3_isLike_2 : List UInt8 := dkwX3_isLike_2 ++ dktX3_isLike_3
def dkwX3_isLike_1 : List UInt8 := [162, 0, 49, 28, 153, 0, 45, 42, 180, 0, 15, 29, 46, 43, 180, 0, 15, 29, 46, 160, 0, 22, 42]
abbrev dktX3_isLike_1 : List UInt8 := dkwX3_isLike_1 ++ dktX3_isLike_2
def dkwX3_isLike_0 : List UInt8 := [42, 180, 0, 9, 43, 180, 0, 9, 160, 0, 7, 4, 167, 0, 4, 3, 61, 3, 62, 29, 42, 180, 0, 9]
abbrev dktX3_isLike_0 : List UInt8 := dkwX3_isLike_0 ++ dktX3_isLike_1
theorem dksX3_isLike_0 : cX3_isLike.data.toList.drop 0 = dktX3_isLike_0 := by decide +kernel
theorem dksX3_isLike_1 : cX3_isLike.data.toList.drop 24 = dktX3_isLike_1 := dk_seg dksX3_isLike_0 24 rfl rfl
theorem dksX3_isLike_2 : cX3_isLike.data.toList.drop 47 = dktX3_isLike_2 := dk_seg dksX3_isLike_1 23 rfl rfl
theorem dksX3_isLike_3 : cX3_isLike.data.toList.drop 70 = dktX3_isLike_3 := dk_seg dksX3_isLike_2 23 rfl rfl
theorem dX3_isLike_0 : decode cX3_isLike 0 = .ok (.aload_n 0, 1) := dk_42 (dk_at dksX3_isLike_0 0 rfl rfl)
theorem dX3_isLike_1 : decode cX3_isLike 1 = .ok (.getfield 9, 3) := dk_180 0 9 (dk_at dksX3_isLike_0 1 rfl rfl)
theorem dX3_isLike_4 : decode cX3_isLike 4 = .ok (.aload_n 1, 1) := dk_43 (dk_at dksX3_isLike_0 4 rfl rfl)
theorem dX3_isLike_5 : decode cX3_isLike 5 = .ok (.getfield 9, 3) := dk_180 0 9 (dk_at dksX3_isLike_0 5 rfl rfl)
theorem dX3_isLike_8 : decode cX3_isLike 8 = .ok (.if_icmp .ne 7, 3) := dk_160 0 7 (dk_at dksX3_isLike_0 8 rfl rfl)
theorem dX3_isLike_11 : decode cX3_isLike 11 = .ok (.iconst 1, 1) := dk_4 (dk_at dksX3_isLike_0 11 rfl rfl)
theorem dX3_isLike_12 : decode cX3_isLike 12 = .ok (.goto 4, 3) := dk_167 0 4 (dk_at dksX3_isLike_0 12 rfl rfl)
theorem dX3_isLike_15 : decode cX3_isLike 15 = .ok (.iconst 0, 1) := dk_3 (dk_at dksX3_isLike_0 15 rfl rfl)
theorem dX3_isLike_16 : decode cX3_isLike 16 = .ok (.istore_n 2, 1) := dk_61 (dk_at dksX3_isLike_0 16 rfl rfl)
theorem dX3_isLike_17 : decode cX3_isLike 17 = .ok (.iconst 0, 1) := dk_3 (dk_at dksX3_isLike_0 17 rfl rfl)
theorem dX3_isLike_18 : decode cX3_isLike 18 = .ok (.istore_n 3, 1) := dk_62 (dk_at dksX3_isLike_0 18 rfl rfl)
theorem dX3_isLike_19 : decode cX3_isLike 19 = .ok (.iload_n 3, 1) := dk_29 (dk_at dksX3_isLike_0 19 rfl rfl)
theorem dX3_isLike_20 : decode cX3_isLike 20 = .ok (.aload_n 0, 1) := dk_42 (dk_at dksX3_isLike_0 20 rfl rfl)
theorem dX3_isLike_21 : decode cX3_isLike 21 = .ok (.getfield 9, 3) := dk_180 0 9 (dk_at dksX3_isLike_0 21 rfl rfl)
theorem dX3_isLike_24 : decode cX3_isLike 24 = .ok (.if_icmp .ge 49, 3) := dk_162 0 49 (dk_at dksX3_isLike_1 0 rfl rfl)
theorem dX3_isLike_27 : decode cX3_isLike 27 = .ok (.iload_n 2, 1) := dk_28 (dk_at dksX3_isLike_1 3 rfl rfl)
theorem dX3_isLike_28 : decode cX3_isLike 28 = .ok (.ifCond .eq 45, 3) := dk_153 0 45 (dk_at dksX3_isLike_1 4 rfl rfl)
theorem dX3_isLike_31 : decode cX3_isLike 31 = .ok (.aload_n 0, 1) := dk_42 (dk_at dksX3_isLike_1 7 rfl rfl)
theorem dX3_isLike_32 : decode cX3_isLike 32 = .ok (.getfield 15, 3) := dk_180 0 15 (dk_at dksX3_isLike_1 8 rfl rfl)
theorem dX3_isLike_35 : decode cX3_isLike 35 = .ok (.iload_n 3, 1) := dk_29 (dk_at dksX3_isLike_1 11 rfl rfl)
theorem dX3_isLike_36 : decode cX3_isLike 36 = .ok (.iaload, 1) := dk_46 (dk_at dksX3_isLike_1 12 rfl rfl)
theorem dX3_isLike_37 : decode cX3_isLike 37 = .ok (.aload_n 1, 1) := dk_43 (dk_at dksX3_isLike_1 13 rfl rfl)
theorem dX3_isLike_38 : decode cX3_isLike 38 = .ok (.getfield 15, 3) := dk_180 0 15 (dk_at dksX3_isLike_1 14 rfl rfl)
theorem dX3_isLike_41 : decode cX3_isLike 41 = .ok (.iload_n 3, 1) := dk_29 (dk_at dksX3_isLike_1 17 rfl rfl)
theorem dX3_isLike_42 : decode cX3_isLike 42 = .ok (.iaload, 1) := dk_46 (dk_at dksX3_isLike_1 18 rfl rfl)
theorem dX3_isLike_43 : decode cX3_isLike 43 = .ok (.if_icmp .ne 22, 3) := dk_160 0 22 (dk_at dksX3_isLike_1 19 rfl rfl)
theorem dX3_isLike_46 : decode cX3_isLike 46 = .ok (.aload_n 0, 1) := dk_42 (dk_at dksX3_isLike_1 22 rfl rfl)
theorem dX3_isLike_47 : decode cX3_isLike 47 = .ok (.getfield 19, 3) := dk_180 0 19 (dk_at dksX3_isLike_2 0 rfl rfl)
theorem dX3_isLike_50 : decode cX3_isLike 50 = .ok (.iload_n 3, 1) := dk_29 (dk_at dksX3_isLike_2 3 rfl rfl)
theorem dX3_isLike_51 : decode cX3_isLike 51 = .ok (.iaload, 1) := dk_46 (dk_at dksX3_isLike_2 4 rfl rfl)
theorem dX3_isLike_52 : decode cX3_isLike 52 = .ok (.aload_n 1, 1) := dk_43 (dk_at dksX3_isLike_2 5 rfl rfl)
theorem dX3_isLike_53 : decode cX3_isLike 53 = .ok (.getfield 19, 3) := dk_180 0 19 (dk_at dksX3_isLike_2 6 rfl rfl)
theorem dX3_isLike_56 : decode cX3_isLike 56 = .ok (.iload_n 3, 1) := dk_29 (dk_at dksX3_isLike_2 9 rfl rfl)
theorem dX3_isLike_57 : decode cX3_isLike 57 = .ok (.iaload, 1) := dk_46 (dk_at dksX3_isLike_2 10 rfl rfl)
theorem dX3_isLike_58 : decode cX3_isLike 58 = .ok (.if_icmp .ne 7, 3) := dk_160 0 7 (dk_at dksX3_isLike_2 11 rfl rfl)
theorem dX3_isLike_61 : decode cX3_isLike 61 = .ok (.iconst 1, 1) := dk_4 (dk_at dksX3_isLike_2 14 rfl rfl)
theorem dX3_isLike_62 : decode cX3_isLike 62 = .ok (.goto 4, 3) := dk_167 0 4 (dk_at dksX3_isLike_2 15 rfl rfl)
theorem dX3_isLike_65 : decode cX3_isLike 65 = .ok (.iconst 0, 1) := dk_3 (dk_at dksX3_isLike_2 18 rfl rfl)
theorem dX3_isLike_66 : decode cX3_isLike 66 = .ok (.istore_n 2, 1) := dk_61 (dk_at dksX3_isLike_2 19 rfl rfl)
theorem dX3_isLike_67 : decode cX3_isLike 67 = .ok (.iinc 3 1, 3) := dk_132 3 1 (dk_at dksX3_isLike_2 20 rfl rfl)
theorem dX3_isLike_70 : decode cX3_isLike 70 = .ok (.goto (-51), 3) := dk_167 255 205 (dk_at dksX3_isLike_3 0 rfl rfl)
theorem dX3_isLike_73 : decode cX3_isLike 73 = .ok (.iload_n 2, 1) := dk_28 (dk_at dksX3_isLike_3 3 rfl rfl)
theorem dX3_isLike_74 : decode cX3_isLike 74 = .ok (.ireturn, 1) := dk_172 (dk_at dksX3_isLike_3 4 rfl rfl)
abbrev cX3_option : ByteArray := prog_5_method_5_code
def yX3_option : MethodName := ⟨RX3, "option", "(II)I"⟩
def dkwX3_option_2 : List UInt8 := [184, 0, 32, 172]
abbrev dktX3_option_2 : List UInt8 := dkwX3_option_2 ++ []
def dkwX3_option_1 : List UInt8 := [153, 0, 15, 29, 29, 4, 100, 126, 62, 132, 4, 1, 167, 255, 237, 29, 154, 0, 7, 2, 167, 0, 7, 29]
abbrev dktX3_option_1 : List UInt8 := dkwX3_option_1 ++ dktX3_option_2
def dkwX3_option_0 : List UInt8 := [42, 42, 180, 0, 9, 4, 100, 27, 182, 0, 22, 62, 3, 54, 4, 21, 4, 28, 162, 0, 19, 29]
abbrev dktX3_option_0 : List UInt8 := dkwX3_option_0 ++ dktX3_option_1
theorem dksX3_option_0 : cX3_option.data.toList.drop 0 = dktX3_option_0 := by decide +kernel
theorem dksX3_option_1 : cX3_option.data.toList.drop 22 = dktX3_option_1 := dk_seg dksX3_option_0 22 rfl rfl
theorem dksX3_option_2 : cX3_option.data.toList.drop 46 = dktX3_option_2 := dk_seg dksX3_option_1 24 rfl rfl
theorem dX3_option_0 : decode cX3_option 0 = .ok (.aload_n 0, 1) := dk_42 (dk_at dksX3_option_0 0 rfl rfl)
theorem dX3_option_1 : decode cX3_option 1 = .ok (.aload_n 0, 1) := dk_42 (dk_at dksX3_option_0 1 rfl rfl)
theorem dX3_option_2 : decode cX3_option 2 = .ok (.getfield 9, 3) := dk_180 0 9 (dk_at dksX3_option_0 2 rfl rfl)
theorem dX3_option_5 : decode cX3_option 5 = .ok (.iconst 1, 1) := dk_4 (dk_at dksX3_option_0 5 rfl rfl)
theorem dX3_option_6 : decode cX3_option 6 = .ok (.isub, 1) := dk_100 (dk_at dksX3_option_0 6 rfl rfl)
theorem dX3_option_7 : decode cX3_option 7 = .ok (.iload_n 1, 1) := dk_27 (dk_at dksX3_option_0 7 rfl rfl)
theorem dX3_option_8 : decode cX3_option 8 = .ok (.invokevirtual 22, 3) := dk_182 0 22 (dk_at dksX3_option_0 8 rfl rfl)
theorem dX3_option_11 : decode cX3_option 11 = .ok (.istore_n 3, 1) := dk_62 (dk_at dksX3_option_0 11 rfl rfl)
theorem dX3_option_12 : decode cX3_option 12 = .ok (.iconst 0, 1) := dk_3 (dk_at dksX3_option_0 12 rfl rfl)
theorem dX3_option_13 : decode cX3_option 13 = .ok (.istore 4, 2) := dk_54 4 (dk_at dksX3_option_0 13 rfl rfl)
theorem dX3_option_15 : decode cX3_option 15 = .ok (.iload 4, 2) := dk_21 4 (dk_at dksX3_option_0 15 rfl rfl)
theorem dX3_option_17 : decode cX3_option 17 = .ok (.iload_n 2, 1) := dk_28 (dk_at dksX3_option_0 17 rfl rfl)
theorem dX3_option_18 : decode cX3_option 18 = .ok (.if_icmp .ge 19, 3) := dk_162 0 19 (dk_at dksX3_option_0 18 rfl rfl)
theorem dX3_option_21 : decode cX3_option 21 = .ok (.iload_n 3, 1) := dk_29 (dk_at dksX3_option_0 21 rfl rfl)
theorem dX3_option_22 : decode cX3_option 22 = .ok (.ifCond .eq 15, 3) := dk_153 0 15 (dk_at dksX3_option_1 0 rfl rfl)
theorem dX3_option_25 : decode cX3_option 25 = .ok (.iload_n 3, 1) := dk_29 (dk_at dksX3_option_1 3 rfl rfl)
theorem dX3_option_26 : decode cX3_option 26 = .ok (.iload_n 3, 1) := dk_29 (dk_at dksX3_option_1 4 rfl rfl)
theorem dX3_option_27 : decode cX3_option 27 = .ok (.iconst 1, 1) := dk_4 (dk_at dksX3_option_1 5 rfl rfl)
theorem dX3_option_28 : decode cX3_option 28 = .ok (.isub, 1) := dk_100 (dk_at dksX3_option_1 6 rfl rfl)
theorem dX3_option_29 : decode cX3_option 29 = .ok (.iand, 1) := dk_126 (dk_at dksX3_option_1 7 rfl rfl)
theorem dX3_option_30 : decode cX3_option 30 = .ok (.istore_n 3, 1) := dk_62 (dk_at dksX3_option_1 8 rfl rfl)
theorem dX3_option_31 : decode cX3_option 31 = .ok (.iinc 4 1, 3) := dk_132 4 1 (dk_at dksX3_option_1 9 rfl rfl)
theorem dX3_option_34 : decode cX3_option 34 = .ok (.goto (-19), 3) := dk_167 255 237 (dk_at dksX3_option_1 12 rfl rfl)
theorem dX3_option_37 : decode cX3_option 37 = .ok (.iload_n 3, 1) := dk_29 (dk_at dksX3_option_1 15 rfl rfl)
theorem dX3_option_38 : decode cX3_option 38 = .ok (.ifCond .ne 7, 3) := dk_154 0 7 (dk_at dksX3_option_1 16 rfl rfl)
theorem dX3_option_41 : decode cX3_option 41 = .ok (.iconst (-1), 1) := dk_2 (dk_at dksX3_option_1 19 rfl rfl)
theorem dX3_option_42 : decode cX3_option 42 = .ok (.goto 7, 3) := dk_167 0 7 (dk_at dksX3_option_1 20 rfl rfl)
theorem dX3_option_45 : decode cX3_option 45 = .ok (.iload_n 3, 1) := dk_29 (dk_at dksX3_option_1 23 rfl rfl)
theorem dX3_option_46 : decode cX3_option 46 = .ok (.invokestatic 32, 3) := dk_184 0 32 (dk_at dksX3_option_2 0 rfl rfl)
theorem dX3_option_49 : decode cX3_option 49 = .ok (.ireturn, 1) := dk_172 (dk_at dksX3_option_2 3 rfl rfl)
abbrev cX3_optionCount : ByteArray := prog_5_method_4_code
def yX3_optionCount : MethodName := ⟨RX3, "optionCount", "(I)I"⟩
def dkwX3_optionCount_0 : List UInt8 := [42, 42, 180, 0, 9, 4, 100, 27, 182, 0, 22, 184, 0, 26, 172]
abbrev dktX3_optionCount_0 : List UInt8 := dkwX3_optionCount_0 ++ []
theorem dksX3_optionCount_0 : cX3_optionCount.data.toList.drop 0 = dktX3_optionCount_0 := by decide +kernel
theorem dX3_optionCount_0 : decode cX3_optionCount 0 = .ok (.aload_n 0, 1) := dk_42 (dk_at dksX3_optionCount_0 0 rfl rfl)
theorem dX3_optionCount_1 : decode cX3_optionCount 1 = .ok (.aload_n 0, 1) := dk_42 (dk_at dksX3_optionCount_0 1 rfl rfl)
theorem dX3_optionCount_2 : decode cX3_optionCount 2 = .ok (.getfield 9, 3) := dk_180 0 9 (dk_at dksX3_optionCount_0 2 rfl rfl)
theorem dX3_optionCount_5 : decode cX3_optionCount 5 = .ok (.iconst 1, 1) := dk_4 (dk_at dksX3_optionCount_0 5 rfl rfl)
theorem dX3_optionCount_6 : decode cX3_optionCount 6 = .ok (.isub, 1) := dk_100 (dk_at dksX3_optionCount_0 6 rfl rfl)
theorem dX3_optionCount_7 : decode cX3_optionCount 7 = .ok (.iload_n 1, 1) := dk_27 (dk_at dksX3_optionCount_0 7 rfl rfl)
theorem dX3_optionCount_8 : decode cX3_optionCount 8 = .ok (.invokevirtual 22, 3) := dk_182 0 22 (dk_at dksX3_optionCount_0 8 rfl rfl)
theorem dX3_optionCount_11 : decode cX3_optionCount 11 = .ok (.invokestatic 26, 3) := dk_184 0 26 (dk_at dksX3_optionCount_0 11 rfl rfl)
theorem dX3_optionCount_14 : decode cX3_optionCount 14 = .ok (.ireturn, 1) := dk_172 (dk_at dksX3_optionCount_0 14 rfl rfl)
theorem q146 : (Jvm.Cond.initialized "GameCalculator$Form") ∈ lw_all := lw_g (lw_at lw_m1 15 rfl) rfl
theorem q377 : (Jvm.Cond.instantiable "GameCalculator$Form" (3 : Nat)) ∈ lw_all := lw_g (lw_at lw_m2 6 rfl) rfl
theorem q379 : (Jvm.Cond.instanceMethod ({ cls := "GameCalculator$Form", name := "<init>", desc := "(I)V" } : Jvm.MethodName)) ∈ lw_all := lw_g (lw_at lw_m2 8 rfl) rfl
theorem q380 : (Jvm.Cond.code ({ cls := "GameCalculator$Form", name := "<init>", desc := "(I)V" } : Jvm.MethodName) prog_5_method_1_code (2 : Nat) (Option.none : Option Jvm.ClassFile.FieldType)) ∈ lw_all := lw_g (lw_at lw_m2 9 rfl) rfl
theorem q381 : (Jvm.Cond.methodLink "GameCalculator$Form" (3 : Nat) ({ cls := "java/lang/Object", name := "<init>", desc := "()V" } : Jvm.MethodName)) ∈ lw_all := lw_g (lw_at lw_m2 10 rfl) rfl
theorem q382 : (Jvm.Cond.fieldLink "GameCalculator$Form" (9 : Nat) "GameCalculator$Form" "count" "I") ∈ lw_all := lw_g (lw_at lw_m2 11 rfl) rfl
theorem q386 : (Jvm.Cond.fieldLink "GameCalculator$Form" (15 : Nat) "GameCalculator$Form" "lefts" "[I") ∈ lw_all := lw_g (lw_at lw_m2 15 rfl) rfl
theorem q390 : (Jvm.Cond.fieldLink "GameCalculator$Form" (19 : Nat) "GameCalculator$Form" "rights" "[I") ∈ lw_all := lw_g (lw_at lw_m2 19 rfl) rfl
theorem q394 : (Jvm.Cond.laysFinal "GameCalculator$Form" "GameCalculator$Form" "count" "I") ∈ lw_all := lw_g (lw_at lw_m2 23 rfl) rfl
theorem q395 : (Jvm.Cond.soleField "GameCalculator$Form" "count") ∈ lw_all := lw_g (lw_at lw_m2 24 rfl) rfl
theorem q396 : (Jvm.Cond.laysFinal "GameCalculator$Form" "GameCalculator$Form" "lefts" "[I") ∈ lw_all := lw_g (lw_at lw_m2 25 rfl) rfl
theorem q397 : (Jvm.Cond.soleField "GameCalculator$Form" "lefts") ∈ lw_all := lw_g (lw_at lw_m2 26 rfl) rfl
theorem q398 : (Jvm.Cond.laysFinal "GameCalculator$Form" "GameCalculator$Form" "rights" "[I") ∈ lw_all := lw_g (lw_at lw_m2 27 rfl) rfl
theorem q399 : (Jvm.Cond.soleField "GameCalculator$Form" "rights") ∈ lw_all := lw_g (lw_at lw_m2 28 rfl) rfl
theorem q400 : (Jvm.Cond.superclass "GameCalculator$Form" "java/lang/Object") ∈ lw_all := lw_g (lw_at lw_m2 29 rfl) rfl
theorem q819 : (Jvm.Cond.selects "GameCalculator$Form" ({ cls := "java/lang/Object", name := "getClass", desc := "()Ljava/lang/Class;" } : Jvm.MethodName) ({ cls := "java/lang/Object", name := "getClass", desc := "()Ljava/lang/Class;" } : Jvm.MethodName)) ∈ lw_all := lw_g (lw_at lw_m3 208 rfl) rfl
theorem q1172 : (Jvm.Cond.instanceMethod ({ cls := "GameCalculator$Form", name := "set", desc := "(II)I" } : Jvm.MethodName)) ∈ lw_all := lw_g (lw_at lw_m5 81 rfl) rfl
theorem q1173 : (Jvm.Cond.selects "GameCalculator$Form" ({ cls := "GameCalculator$Form", name := "set", desc := "(II)I" } : Jvm.MethodName) ({ cls := "GameCalculator$Form", name := "set", desc := "(II)I" } : Jvm.MethodName)) ∈ lw_all := lw_g (lw_at lw_m5 82 rfl) rfl
theorem q1174 : (Jvm.Cond.code ({ cls := "GameCalculator$Form", name := "set", desc := "(II)I" } : Jvm.MethodName) prog_5_method_2_code (3 : Nat) (Option.some Jvm.ClassFile.FieldType.int)) ∈ lw_all := lw_g (lw_at lw_m5 83 rfl) rfl
theorem q1190 : (Jvm.Cond.instanceMethod ({ cls := "GameCalculator$Form", name := "isLike", desc := "(LGameCalculator$Form;)Z" } : Jvm.MethodName)) ∈ lw_all := lw_g (lw_at lw_m5 99 rfl) rfl
theorem q1191 : (Jvm.Cond.selects "GameCalculator$Form" ({ cls := "GameCalculator$Form", name := "isLike", desc := "(LGameCalculator$Form;)Z" } : Jvm.MethodName) ({ cls := "GameCalculator$Form", name := "isLike", desc := "(LGameCalculator$Form;)Z" } : Jvm.MethodName)) ∈ lw_all := lw_g (lw_at lw_m5 100 rfl) rfl
theorem q1192 : (Jvm.Cond.code ({ cls := "GameCalculator$Form", name := "isLike", desc := "(LGameCalculator$Form;)Z" } : Jvm.MethodName) prog_5_method_3_code (4 : Nat) (Option.some Jvm.ClassFile.FieldType.boolean)) ∈ lw_all := lw_g (lw_at lw_m5 101 rfl) rfl
theorem q1716 : (Jvm.Cond.instanceMethod ({ cls := "GameCalculator$Form", name := "option", desc := "(II)I" } : Jvm.MethodName)) ∈ lw_all := lw_g (lw_at lw_m7 145 rfl) rfl
theorem q1717 : (Jvm.Cond.selects "GameCalculator$Form" ({ cls := "GameCalculator$Form", name := "option", desc := "(II)I" } : Jvm.MethodName) ({ cls := "GameCalculator$Form", name := "option", desc := "(II)I" } : Jvm.MethodName)) ∈ lw_all := lw_g (lw_at lw_m7 146 rfl) rfl
theorem q1718 : (Jvm.Cond.code ({ cls := "GameCalculator$Form", name := "option", desc := "(II)I" } : Jvm.MethodName) prog_5_method_5_code (5 : Nat) (Option.some Jvm.ClassFile.FieldType.int)) ∈ lw_all := lw_g (lw_at lw_m7 147 rfl) rfl
theorem q1719 : (Jvm.Cond.methodLink "GameCalculator$Form" (22 : Nat) ({ cls := "GameCalculator$Form", name := "set", desc := "(II)I" } : Jvm.MethodName)) ∈ lw_all := lw_g (lw_at lw_m7 148 rfl) rfl
theorem q1720 : (Jvm.Cond.methodLink "GameCalculator$Form" (32 : Nat) ({ cls := "java/lang/Integer", name := "numberOfTrailingZeros", desc := "(I)I" } : Jvm.MethodName)) ∈ lw_all := lw_g (lw_at lw_m7 149 rfl) rfl
theorem q2167 : (Jvm.Cond.instanceMethod ({ cls := "GameCalculator$Form", name := "optionCount", desc := "(I)I" } : Jvm.MethodName)) ∈ lw_all := lw_g (lw_at lw_m9 116 rfl) rfl
theorem q2168 : (Jvm.Cond.selects "GameCalculator$Form" ({ cls := "GameCalculator$Form", name := "optionCount", desc := "(I)I" } : Jvm.MethodName) ({ cls := "GameCalculator$Form", name := "optionCount", desc := "(I)I" } : Jvm.MethodName)) ∈ lw_all := lw_g (lw_at lw_m9 117 rfl) rfl
theorem q2169 : (Jvm.Cond.code ({ cls := "GameCalculator$Form", name := "optionCount", desc := "(I)I" } : Jvm.MethodName) prog_5_method_4_code (2 : Nat) (Option.some Jvm.ClassFile.FieldType.int)) ∈ lw_all := lw_g (lw_at lw_m9 118 rfl) rfl
theorem q2170 : (Jvm.Cond.methodLink "GameCalculator$Form" (26 : Nat) ({ cls := "java/lang/Integer", name := "bitCount", desc := "(I)I" } : Jvm.MethodName)) ∈ lw_all := lw_g (lw_at lw_m9 119 rfl) rfl
theorem q2997 : (Jvm.Cond.castable "GameCalculator$Form" "java/lang/Object") ∈ lw_tbl := lw_at lw_m12 226 rfl
theorem in_X3 : ∀ w ∈ wsX30, w ∈ lw_all := lw_in wsX30 [394, 396, 398] (by decide +kernel) (by decide +kernel)
/-! GameCalculator$Walk -/
set_option maxRecDepth 100000
def RX5 : String := "GameCalculator$Walk"
def TX5 : u_T := fun k => match k with
  | 0 => ("GameCalculator$Walk", "value", "J", false)
  | 1 => ("GameCalculator$Walk", "hasLow", "Z", false)
  | 2 => ("GameCalculator$Walk", "hasHigh", "Z", false)
  | 3 => ("GameCalculator$Walk", "low", "J", false)
  | 4 => ("GameCalculator$Walk", "high", "J", false)
  | _ => ("GameCalculator$Walk", "count", "I", false)
def tyX5 : Nat → FieldType := fun k => match k with
  | 0 => .long
  | 1 => .boolean
  | 2 => .boolean
  | 3 => .long
  | 4 => .long
  | _ => .int
abbrev wsX50 : List Cond := u_ws RX5 TX5 6
theorem nmX5 : ∀ a, a < 6 → ∀ b, b < 6 → a ≠ b → (TX5 a).2.1 ≠ (TX5 b).2.1 := by decide +kernel
theorem tyX5_ok : ∀ k, k < 6 → parseFieldDescriptor (TX5 k).2.2.1 = some (tyX5 k) := by decide +kernel
abbrev cX5_init : ByteArray := prog_15_method_1_code
def yX5_init : MethodName := ⟨RX5, "<init>", "()V"⟩
theorem dX5_init_0 : decode cX5_init 0 = .ok (.aload_n 0, 1) := by decide +kernel
theorem dX5_init_1 : decode cX5_init 1 = .ok (.invokespecial 3, 3) := by decide +kernel
theorem dX5_init_4 : decode cX5_init 4 = .ok (.return_, 1) := by decide +kernel
abbrev cX5_step : ByteArray := prog_15_method_2_code
def yX5_step : MethodName := ⟨RX5, "step", "(Z)V"⟩
def dkwX5_step_4 : List UInt8 := [180, 0, 15, 20, 0, 30, 101, 181, 0, 15, 42, 89, 180, 0, 32, 4, 96, 181, 0, 32, 177]
abbrev dktX5_step_4 : List UInt8 := dkwX5_step_4 ++ []
def dkwX5_step_3 : List UInt8 := [42, 180, 0, 9, 153, 0, 19, 42, 180, 0, 15, 42, 180, 0, 19, 97, 20, 0, 28, 109, 167, 0, 11, 42]
abbrev dktX5_step_3 : List UInt8 := dkwX5_step_3 ++ dktX5_step_4
def dkwX5_step_2 : List UInt8 := [20, 0, 30, 97, 181, 0, 15, 167, 0, 51, 42, 4, 181, 0, 22, 42, 42, 180, 0, 15, 181, 0, 25, 42]
abbrev dktX5_step_2 : List UInt8 := dkwX5_step_2 ++ dktX5_step_3
def dkwX5_step_1 : List UInt8 := [153, 0, 19, 42, 180, 0, 15, 42, 180, 0, 25, 97, 20, 0, 28, 109, 167, 0, 11, 42, 180, 0, 15]
abbrev dktX5_step_1 : List UInt8 := dkwX5_step_1 ++ dktX5_step_2
def dkwX5_step_0 : List UInt8 := [27, 153, 0, 54, 42, 4, 181, 0, 9, 42, 42, 180, 0, 15, 181, 0, 19, 42, 42, 180, 0, 22]
abbrev dktX5_step_0 : List UInt8 := dkwX5_step_0 ++ dktX5_step_1
theorem dksX5_step_0 : cX5_step.data.toList.drop 0 = dktX5_step_0 := by decide +kernel
theorem dksX5_step_1 : cX5_step.data.toList.drop 22 = dktX5_step_1 := dk_seg dksX5_step_0 22 rfl rfl
theorem dksX5_step_2 : cX5_step.data.toList.drop 45 = dktX5_step_2 := dk_seg dksX5_step_1 23 rfl rfl
theorem dksX5_step_3 : cX5_step.data.toList.drop 69 = dktX5_step_3 := dk_seg dksX5_step_2 24 rfl rfl
theorem dksX5_step_4 : cX5_step.data.toList.drop 93 = dktX5_step_4 := dk_seg dksX5_step_3 24 rfl rfl
theorem dX5_step_0 : decode cX5_step 0 = .ok (.iload_n 1, 1) := dk_27 (dk_at dksX5_step_0 0 rfl rfl)
theorem dX5_step_1 : decode cX5_step 1 = .ok (.ifCond .eq 54, 3) := dk_153 0 54 (dk_at dksX5_step_0 1 rfl rfl)
theorem dX5_step_4 : decode cX5_step 4 = .ok (.aload_n 0, 1) := dk_42 (dk_at dksX5_step_0 4 rfl rfl)
theorem dX5_step_5 : decode cX5_step 5 = .ok (.iconst 1, 1) := dk_4 (dk_at dksX5_step_0 5 rfl rfl)
theorem dX5_step_6 : decode cX5_step 6 = .ok (.putfield 9, 3) := dk_181 0 9 (dk_at dksX5_step_0 6 rfl rfl)
theorem dX5_step_9 : decode cX5_step 9 = .ok (.aload_n 0, 1) := dk_42 (dk_at dksX5_step_0 9 rfl rfl)
theorem dX5_step_10 : decode cX5_step 10 = .ok (.aload_n 0, 1) := dk_42 (dk_at dksX5_step_0 10 rfl rfl)
theorem dX5_step_11 : decode cX5_step 11 = .ok (.getfield 15, 3) := dk_180 0 15 (dk_at dksX5_step_0 11 rfl rfl)
theorem dX5_step_14 : decode cX5_step 14 = .ok (.putfield 19, 3) := dk_181 0 19 (dk_at dksX5_step_0 14 rfl rfl)
theorem dX5_step_17 : decode cX5_step 17 = .ok (.aload_n 0, 1) := dk_42 (dk_at dksX5_step_0 17 rfl rfl)
theorem dX5_step_18 : decode cX5_step 18 = .ok (.aload_n 0, 1) := dk_42 (dk_at dksX5_step_0 18 rfl rfl)
theorem dX5_step_19 : decode cX5_step 19 = .ok (.getfield 22, 3) := dk_180 0 22 (dk_at dksX5_step_0 19 rfl rfl)
theorem dX5_step_22 : decode cX5_step 22 = .ok (.ifCond .eq 19, 3) := dk_153 0 19 (dk_at dksX5_step_1 0 rfl rfl)
theorem dX5_step_25 : decode cX5_step 25 = .ok (.aload_n 0, 1) := dk_42 (dk_at dksX5_step_1 3 rfl rfl)
theorem dX5_step_26 : decode cX5_step 26 = .ok (.getfield 15, 3) := dk_180 0 15 (dk_at dksX5_step_1 4 rfl rfl)
theorem dX5_step_29 : decode cX5_step 29 = .ok (.aload_n 0, 1) := dk_42 (dk_at dksX5_step_1 7 rfl rfl)
theorem dX5_step_30 : decode cX5_step 30 = .ok (.getfield 25, 3) := dk_180 0 25 (dk_at dksX5_step_1 8 rfl rfl)
theorem dX5_step_33 : decode cX5_step 33 = .ok (.ladd, 1) := dk_97 (dk_at dksX5_step_1 11 rfl rfl)
theorem dX5_step_34 : decode cX5_step 34 = .ok (.ldc2_w 28, 3) := dk_20 0 28 (dk_at dksX5_step_1 12 rfl rfl)
theorem dX5_step_37 : decode cX5_step 37 = .ok (.ldiv, 1) := dk_109 (dk_at dksX5_step_1 15 rfl rfl)
theorem dX5_step_38 : decode cX5_step 38 = .ok (.goto 11, 3) := dk_167 0 11 (dk_at dksX5_step_1 16 rfl rfl)
theorem dX5_step_41 : decode cX5_step 41 = .ok (.aload_n 0, 1) := dk_42 (dk_at dksX5_step_1 19 rfl rfl)
theorem dX5_step_42 : decode cX5_step 42 = .ok (.getfield 15, 3) := dk_180 0 15 (dk_at dksX5_step_1 20 rfl rfl)
theorem dX5_step_45 : decode cX5_step 45 = .ok (.ldc2_w 30, 3) := dk_20 0 30 (dk_at dksX5_step_2 0 rfl rfl)
theorem dX5_step_48 : decode cX5_step 48 = .ok (.ladd, 1) := dk_97 (dk_at dksX5_step_2 3 rfl rfl)
theorem dX5_step_49 : decode cX5_step 49 = .ok (.putfield 15, 3) := dk_181 0 15 (dk_at dksX5_step_2 4 rfl rfl)
theorem dX5_step_52 : decode cX5_step 52 = .ok (.goto 51, 3) := dk_167 0 51 (dk_at dksX5_step_2 7 rfl rfl)
theorem dX5_step_55 : decode cX5_step 55 = .ok (.aload_n 0, 1) := dk_42 (dk_at dksX5_step_2 10 rfl rfl)
theorem dX5_step_56 : decode cX5_step 56 = .ok (.iconst 1, 1) := dk_4 (dk_at dksX5_step_2 11 rfl rfl)
theorem dX5_step_57 : decode cX5_step 57 = .ok (.putfield 22, 3) := dk_181 0 22 (dk_at dksX5_step_2 12 rfl rfl)
theorem dX5_step_60 : decode cX5_step 60 = .ok (.aload_n 0, 1) := dk_42 (dk_at dksX5_step_2 15 rfl rfl)
theorem dX5_step_61 : decode cX5_step 61 = .ok (.aload_n 0, 1) := dk_42 (dk_at dksX5_step_2 16 rfl rfl)
theorem dX5_step_62 : decode cX5_step 62 = .ok (.getfield 15, 3) := dk_180 0 15 (dk_at dksX5_step_2 17 rfl rfl)
theorem dX5_step_65 : decode cX5_step 65 = .ok (.putfield 25, 3) := dk_181 0 25 (dk_at dksX5_step_2 20 rfl rfl)
theorem dX5_step_68 : decode cX5_step 68 = .ok (.aload_n 0, 1) := dk_42 (dk_at dksX5_step_2 23 rfl rfl)
theorem dX5_step_69 : decode cX5_step 69 = .ok (.aload_n 0, 1) := dk_42 (dk_at dksX5_step_3 0 rfl rfl)
theorem dX5_step_70 : decode cX5_step 70 = .ok (.getfield 9, 3) := dk_180 0 9 (dk_at dksX5_step_3 1 rfl rfl)
theorem dX5_step_73 : decode cX5_step 73 = .ok (.ifCond .eq 19, 3) := dk_153 0 19 (dk_at dksX5_step_3 4 rfl rfl)
theorem dX5_step_76 : decode cX5_step 76 = .ok (.aload_n 0, 1) := dk_42 (dk_at dksX5_step_3 7 rfl rfl)
theorem dX5_step_77 : decode cX5_step 77 = .ok (.getfield 15, 3) := dk_180 0 15 (dk_at dksX5_step_3 8 rfl rfl)
theorem dX5_step_80 : decode cX5_step 80 = .ok (.aload_n 0, 1) := dk_42 (dk_at dksX5_step_3 11 rfl rfl)
theorem dX5_step_81 : decode cX5_step 81 = .ok (.getfield 19, 3) := dk_180 0 19 (dk_at dksX5_step_3 12 rfl rfl)
theorem dX5_step_84 : decode cX5_step 84 = .ok (.ladd, 1) := dk_97 (dk_at dksX5_step_3 15 rfl rfl)
theorem dX5_step_85 : decode cX5_step 85 = .ok (.ldc2_w 28, 3) := dk_20 0 28 (dk_at dksX5_step_3 16 rfl rfl)
theorem dX5_step_88 : decode cX5_step 88 = .ok (.ldiv, 1) := dk_109 (dk_at dksX5_step_3 19 rfl rfl)
theorem dX5_step_89 : decode cX5_step 89 = .ok (.goto 11, 3) := dk_167 0 11 (dk_at dksX5_step_3 20 rfl rfl)
theorem dX5_step_92 : decode cX5_step 92 = .ok (.aload_n 0, 1) := dk_42 (dk_at dksX5_step_3 23 rfl rfl)
theorem dX5_step_93 : decode cX5_step 93 = .ok (.getfield 15, 3) := dk_180 0 15 (dk_at dksX5_step_4 0 rfl rfl)
theorem dX5_step_96 : decode cX5_step 96 = .ok (.ldc2_w 30, 3) := dk_20 0 30 (dk_at dksX5_step_4 3 rfl rfl)
theorem dX5_step_99 : decode cX5_step 99 = .ok (.lsub, 1) := dk_101 (dk_at dksX5_step_4 6 rfl rfl)
theorem dX5_step_100 : decode cX5_step 100 = .ok (.putfield 15, 3) := dk_181 0 15 (dk_at dksX5_step_4 7 rfl rfl)
theorem dX5_step_103 : decode cX5_step 103 = .ok (.aload_n 0, 1) := dk_42 (dk_at dksX5_step_4 10 rfl rfl)
theorem dX5_step_104 : decode cX5_step 104 = .ok (.dup, 1) := dk_89 (dk_at dksX5_step_4 11 rfl rfl)
theorem dX5_step_105 : decode cX5_step 105 = .ok (.getfield 32, 3) := dk_180 0 32 (dk_at dksX5_step_4 12 rfl rfl)
theorem dX5_step_108 : decode cX5_step 108 = .ok (.iconst 1, 1) := dk_4 (dk_at dksX5_step_4 15 rfl rfl)
theorem dX5_step_109 : decode cX5_step 109 = .ok (.iadd, 1) := dk_96 (dk_at dksX5_step_4 16 rfl rfl)
theorem dX5_step_110 : decode cX5_step 110 = .ok (.putfield 32, 3) := dk_181 0 32 (dk_at dksX5_step_4 17 rfl rfl)
theorem dX5_step_113 : decode cX5_step 113 = .ok (.return_, 1) := dk_177 (dk_at dksX5_step_4 20 rfl rfl)
theorem q148 : (Jvm.Cond.initialized "GameCalculator$Walk") ∈ lw_all := lw_g (lw_at lw_m1 17 rfl) rfl
theorem q454 : (Jvm.Cond.instantiable "GameCalculator$Walk" (6 : Nat)) ∈ lw_all := lw_g (lw_at lw_m2 83 rfl) rfl
theorem q456 : (Jvm.Cond.instanceMethod ({ cls := "GameCalculator$Walk", name := "<init>", desc := "()V" } : Jvm.MethodName)) ∈ lw_all := lw_g (lw_at lw_m2 85 rfl) rfl
theorem q457 : (Jvm.Cond.code ({ cls := "GameCalculator$Walk", name := "<init>", desc := "()V" } : Jvm.MethodName) prog_15_method_1_code (1 : Nat) (Option.none : Option Jvm.ClassFile.FieldType)) ∈ lw_all := lw_g (lw_at lw_m2 86 rfl) rfl
theorem q458 : (Jvm.Cond.methodLink "GameCalculator$Walk" (3 : Nat) ({ cls := "java/lang/Object", name := "<init>", desc := "()V" } : Jvm.MethodName)) ∈ lw_all := lw_g (lw_at lw_m2 87 rfl) rfl
theorem q459 : (Jvm.Cond.fieldLink "GameCalculator$Walk" (15 : Nat) "GameCalculator$Walk" "value" "J") ∈ lw_all := lw_g (lw_at lw_m2 88 rfl) rfl
theorem q461 : (Jvm.Cond.fieldLink "GameCalculator$Walk" (9 : Nat) "GameCalculator$Walk" "hasLow" "Z") ∈ lw_all := lw_g (lw_at lw_m2 90 rfl) rfl
theorem q462 : (Jvm.Cond.fieldLink "GameCalculator$Walk" (22 : Nat) "GameCalculator$Walk" "hasHigh" "Z") ∈ lw_all := lw_g (lw_at lw_m2 91 rfl) rfl
theorem q463 : (Jvm.Cond.fieldLink "GameCalculator$Walk" (19 : Nat) "GameCalculator$Walk" "low" "J") ∈ lw_all := lw_g (lw_at lw_m2 92 rfl) rfl
theorem q464 : (Jvm.Cond.fieldLink "GameCalculator$Walk" (25 : Nat) "GameCalculator$Walk" "high" "J") ∈ lw_all := lw_g (lw_at lw_m2 93 rfl) rfl
theorem q465 : (Jvm.Cond.fieldLink "GameCalculator$Walk" (32 : Nat) "GameCalculator$Walk" "count" "I") ∈ lw_all := lw_g (lw_at lw_m2 94 rfl) rfl
theorem q467 : (Jvm.Cond.lays "GameCalculator$Walk" "GameCalculator$Walk" "value" "J") ∈ lw_all := lw_g (lw_at lw_m2 96 rfl) rfl
theorem q468 : (Jvm.Cond.soleField "GameCalculator$Walk" "value") ∈ lw_all := lw_g (lw_at lw_m2 97 rfl) rfl
theorem q469 : (Jvm.Cond.lays "GameCalculator$Walk" "GameCalculator$Walk" "hasLow" "Z") ∈ lw_all := lw_g (lw_at lw_m2 98 rfl) rfl
theorem q470 : (Jvm.Cond.soleField "GameCalculator$Walk" "hasLow") ∈ lw_all := lw_g (lw_at lw_m2 99 rfl) rfl
theorem q471 : (Jvm.Cond.lays "GameCalculator$Walk" "GameCalculator$Walk" "hasHigh" "Z") ∈ lw_all := lw_g (lw_at lw_m2 100 rfl) rfl
theorem q472 : (Jvm.Cond.soleField "GameCalculator$Walk" "hasHigh") ∈ lw_all := lw_g (lw_at lw_m2 101 rfl) rfl
theorem q473 : (Jvm.Cond.lays "GameCalculator$Walk" "GameCalculator$Walk" "low" "J") ∈ lw_all := lw_g (lw_at lw_m2 102 rfl) rfl
theorem q474 : (Jvm.Cond.soleField "GameCalculator$Walk" "low") ∈ lw_all := lw_g (lw_at lw_m2 103 rfl) rfl
theorem q475 : (Jvm.Cond.lays "GameCalculator$Walk" "GameCalculator$Walk" "high" "J") ∈ lw_all := lw_g (lw_at lw_m2 104 rfl) rfl
theorem q476 : (Jvm.Cond.soleField "GameCalculator$Walk" "high") ∈ lw_all := lw_g (lw_at lw_m2 105 rfl) rfl
theorem q477 : (Jvm.Cond.lays "GameCalculator$Walk" "GameCalculator$Walk" "count" "I") ∈ lw_all := lw_g (lw_at lw_m2 106 rfl) rfl
theorem q478 : (Jvm.Cond.soleField "GameCalculator$Walk" "count") ∈ lw_all := lw_g (lw_at lw_m2 107 rfl) rfl
theorem q479 : (Jvm.Cond.superclass "GameCalculator$Walk" "java/lang/Object") ∈ lw_all := lw_g (lw_at lw_m2 108 rfl) rfl
theorem q598 : (Jvm.Cond.instanceMethod ({ cls := "GameCalculator$Walk", name := "step", desc := "(Z)V" } : Jvm.MethodName)) ∈ lw_all := lw_g (lw_at lw_m2 227 rfl) rfl
theorem q599 : (Jvm.Cond.selects "GameCalculator$Walk" ({ cls := "GameCalculator$Walk", name := "step", desc := "(Z)V" } : Jvm.MethodName) ({ cls := "GameCalculator$Walk", name := "step", desc := "(Z)V" } : Jvm.MethodName)) ∈ lw_all := lw_g (lw_at lw_m2 228 rfl) rfl
theorem q600 : (Jvm.Cond.code ({ cls := "GameCalculator$Walk", name := "step", desc := "(Z)V" } : Jvm.MethodName) prog_15_method_2_code (2 : Nat) (Option.none : Option Jvm.ClassFile.FieldType)) ∈ lw_all := lw_g (lw_at lw_m2 229 rfl) rfl
theorem q601 : (Jvm.Cond.constantLong "GameCalculator$Walk" (28 : Nat) (2 : Int64)) ∈ lw_all := lw_g (lw_at lw_m2 230 rfl) rfl
theorem q602 : (Jvm.Cond.constantLong "GameCalculator$Walk" (30 : Nat) (4294967296 : Int64)) ∈ lw_all := lw_g (lw_at lw_m2 231 rfl) rfl
theorem q828 : (Jvm.Cond.selects "GameCalculator$Walk" ({ cls := "java/lang/Object", name := "getClass", desc := "()Ljava/lang/Class;" } : Jvm.MethodName) ({ cls := "java/lang/Object", name := "getClass", desc := "()Ljava/lang/Class;" } : Jvm.MethodName)) ∈ lw_all := lw_g (lw_at lw_m3 217 rfl) rfl
theorem q3007 : (Jvm.Cond.castable "GameCalculator$Walk" "java/lang/Object") ∈ lw_tbl := lw_at lw_m12 236 rfl
theorem in_X5 : ∀ w ∈ wsX50, w ∈ lw_all := lw_in wsX50 [467, 469, 471, 473, 475, 477] (by decide +kernel) (by decide +kernel)
/-! GameCalculator$LimitException -/
set_option maxRecDepth 100000
def RX6 : String := "GameCalculator$LimitException"
def TX6 : u_T := fun k => match k with
  | 0 => ("java/lang/Throwable", "cause", "Ljava/lang/Throwable;", false)
  | 1 => ("java/lang/Throwable", "stackTrace", "[Ljava/lang/StackTraceElement;", false)
  | 2 => ("java/lang/Throwable", "suppressedExceptions", "Ljava/util/List;", false)
  | 3 => ("java/lang/Throwable", "detailMessage", "Ljava/lang/String;", false)
  | 4 => ("java/lang/Throwable", "backtrace", "Ljava/lang/Object;", false)
  | _ => ("java/lang/Throwable", "depth", "I", false)
def tyX6 : Nat → FieldType := fun k => match k with
  | 0 => .object "java/lang/Throwable"
  | 1 => .array (.object "java/lang/StackTraceElement")
  | 2 => .object "java/util/List"
  | 3 => .object "java/lang/String"
  | 4 => .object "java/lang/Object"
  | _ => .int
abbrev wsX60 : List Cond := u_ws RX6 TX6 6
theorem nmX6 : ∀ a, a < 6 → ∀ b, b < 6 → a ≠ b → (TX6 a).2.1 ≠ (TX6 b).2.1 := by decide +kernel
theorem tyX6_ok : ∀ k, k < 6 → parseFieldDescriptor (TX6 k).2.2.1 = some (tyX6 k) := by decide +kernel
abbrev cX6_init : ByteArray := prog_8_method_1_code
def yX6_init : MethodName := ⟨RX6, "<init>", "()V"⟩
def dkwX6_init_0 : List UInt8 := [42, 18, 1, 183, 0, 3, 177]
abbrev dktX6_init_0 : List UInt8 := dkwX6_init_0 ++ []
theorem dksX6_init_0 : cX6_init.data.toList.drop 0 = dktX6_init_0 := by decide +kernel
theorem dX6_init_0 : decode cX6_init 0 = .ok (.aload_n 0, 1) := dk_42 (dk_at dksX6_init_0 0 rfl rfl)
theorem dX6_init_1 : decode cX6_init 1 = .ok (.ldc 1, 2) := dk_18 1 (dk_at dksX6_init_0 1 rfl rfl)
theorem dX6_init_3 : decode cX6_init 3 = .ok (.invokespecial 3, 3) := dk_183 0 3 (dk_at dksX6_init_0 3 rfl rfl)
theorem dX6_init_6 : decode cX6_init 6 = .ok (.return_, 1) := dk_177 (dk_at dksX6_init_0 6 rfl rfl)
theorem q151 : (Jvm.Cond.initialized "GameCalculator$LimitException") ∈ lw_all := lw_g (lw_at lw_m1 20 rfl) rfl
theorem q484 : (Jvm.Cond.instantiable "GameCalculator$LimitException" (6 : Nat)) ∈ lw_all := lw_g (lw_at lw_m2 113 rfl) rfl
theorem q485 : (Jvm.Cond.castable "GameCalculator$LimitException" "GameCalculator$LimitException") ∈ lw_tbl := lw_at lw_m2 114 rfl
theorem q490 : (Jvm.Cond.selects "GameCalculator$LimitException" ({ cls := "java/lang/Throwable", name := "fillInStackTrace", desc := "(I)Ljava/lang/Throwable;" } : Jvm.MethodName) ({ cls := "java/lang/Throwable", name := "fillInStackTrace", desc := "(I)Ljava/lang/Throwable;" } : Jvm.MethodName)) ∈ lw_all := lw_g (lw_at lw_m2 119 rfl) rfl
theorem q491 : (Jvm.Cond.selects "GameCalculator$LimitException" ({ cls := "java/lang/Throwable", name := "fillInStackTrace", desc := "()Ljava/lang/Throwable;" } : Jvm.MethodName) ({ cls := "java/lang/Throwable", name := "fillInStackTrace", desc := "()Ljava/lang/Throwable;" } : Jvm.MethodName)) ∈ lw_all := lw_g (lw_at lw_m2 120 rfl) rfl
theorem q492 : (Jvm.Cond.lays "GameCalculator$LimitException" "java/lang/Throwable" "cause" "Ljava/lang/Throwable;") ∈ lw_all := lw_g (lw_at lw_m2 121 rfl) rfl
theorem q494 : (Jvm.Cond.lays "GameCalculator$LimitException" "java/lang/Throwable" "stackTrace" "[Ljava/lang/StackTraceElement;") ∈ lw_all := lw_g (lw_at lw_m2 123 rfl) rfl
theorem q496 : (Jvm.Cond.lays "GameCalculator$LimitException" "java/lang/Throwable" "suppressedExceptions" "Ljava/util/List;") ∈ lw_all := lw_g (lw_at lw_m2 125 rfl) rfl
theorem q498 : (Jvm.Cond.lays "GameCalculator$LimitException" "java/lang/Throwable" "detailMessage" "Ljava/lang/String;") ∈ lw_all := lw_g (lw_at lw_m2 127 rfl) rfl
theorem q500 : (Jvm.Cond.lays "GameCalculator$LimitException" "java/lang/Throwable" "backtrace" "Ljava/lang/Object;") ∈ lw_all := lw_g (lw_at lw_m2 129 rfl) rfl
theorem q525 : (Jvm.Cond.instanceMethod ({ cls := "GameCalculator$LimitException", name := "<init>", desc := "()V" } : Jvm.MethodName)) ∈ lw_all := lw_g (lw_at lw_m2 154 rfl) rfl
theorem q526 : (Jvm.Cond.code ({ cls := "GameCalculator$LimitException", name := "<init>", desc := "()V" } : Jvm.MethodName) prog_8_method_1_code (1 : Nat) (Option.none : Option Jvm.ClassFile.FieldType)) ∈ lw_all := lw_g (lw_at lw_m2 155 rfl) rfl
theorem q527 : (Jvm.Cond.stringRef "GameCalculator$LimitException" (1 : Nat) "too many positions") ∈ lw_tbl := lw_at lw_m2 156 rfl
theorem q528 : (Jvm.Cond.methodLink "GameCalculator$LimitException" (3 : Nat) ({ cls := "java/lang/Exception", name := "<init>", desc := "(Ljava/lang/String;)V" } : Jvm.MethodName)) ∈ lw_all := lw_g (lw_at lw_m2 157 rfl) rfl
theorem q543 : (Jvm.Cond.lays "GameCalculator$LimitException" "java/lang/Throwable" "depth" "I") ∈ lw_all := lw_g (lw_at lw_m2 172 rfl) rfl
theorem q546 : (Jvm.Cond.superclass "GameCalculator$LimitException" "java/lang/Exception") ∈ lw_all := lw_g (lw_at lw_m2 175 rfl) rfl
theorem q822 : (Jvm.Cond.selects "GameCalculator$LimitException" ({ cls := "java/lang/Object", name := "getClass", desc := "()Ljava/lang/Class;" } : Jvm.MethodName) ({ cls := "java/lang/Object", name := "getClass", desc := "()Ljava/lang/Class;" } : Jvm.MethodName)) ∈ lw_all := lw_g (lw_at lw_m3 211 rfl) rfl
theorem q1396 : (Jvm.Cond.selects "GameCalculator$LimitException" ({ cls := "java/lang/Throwable", name := "toString", desc := "()Ljava/lang/String;" } : Jvm.MethodName) ({ cls := "java/lang/Throwable", name := "toString", desc := "()Ljava/lang/String;" } : Jvm.MethodName)) ∈ lw_all := lw_g (lw_at lw_m6 65 rfl) rfl
theorem q1406 : (Jvm.Cond.selects "GameCalculator$LimitException" ({ cls := "java/lang/Throwable", name := "getLocalizedMessage", desc := "()Ljava/lang/String;" } : Jvm.MethodName) ({ cls := "java/lang/Throwable", name := "getLocalizedMessage", desc := "()Ljava/lang/String;" } : Jvm.MethodName)) ∈ lw_all := lw_g (lw_at lw_m6 75 rfl) rfl
theorem q1415 : (Jvm.Cond.selects "GameCalculator$LimitException" ({ cls := "java/lang/Throwable", name := "getMessage", desc := "()Ljava/lang/String;" } : Jvm.MethodName) ({ cls := "java/lang/Throwable", name := "getMessage", desc := "()Ljava/lang/String;" } : Jvm.MethodName)) ∈ lw_all := lw_g (lw_at lw_m6 84 rfl) rfl
theorem q3008 : (Jvm.Cond.castable "GameCalculator$LimitException" "java/lang/Object") ∈ lw_tbl := lw_at lw_m12 237 rfl
theorem in_X6 : ∀ w ∈ wsX60, w ∈ lw_all := lw_in wsX60 [492, 494, 496, 498, 500, 543] (by decide +kernel) (by decide +kernel)
/-! GameCalculator$Parser -/
set_option maxRecDepth 100000
def RX7 : String := "GameCalculator$Parser"
def TX7 : u_T := fun k => match k with
  | 0 => ("GameCalculator$Parser", "position", "I", false)
  | 1 => ("GameCalculator$Parser", "brackets", "I", false)
  | _ => ("GameCalculator$Parser", "this$0", "LGameCalculator;", true)
def tyX7 : Nat → FieldType := fun k => match k with
  | 0 => .int
  | 1 => .int
  | _ => .object "GameCalculator"
abbrev wsX70 : List Cond := u_ws RX7 TX7 3
theorem nmX7 : ∀ a, a < 3 → ∀ b, b < 3 → a ≠ b → (TX7 a).2.1 ≠ (TX7 b).2.1 := by decide +kernel
theorem tyX7_ok : ∀ k, k < 3 → parseFieldDescriptor (TX7 k).2.2.1 = some (tyX7 k) := by decide +kernel
abbrev cX7_init : ByteArray := prog_11_method_1_code
def yX7_init : MethodName := ⟨RX7, "<init>", "(LGameCalculator;)V"⟩
def dkwX7_init_0 : List UInt8 := [42, 43, 181, 0, 3, 42, 183, 0, 9, 177]
abbrev dktX7_init_0 : List UInt8 := dkwX7_init_0 ++ []
theorem dksX7_init_0 : cX7_init.data.toList.drop 0 = dktX7_init_0 := by decide +kernel
theorem dX7_init_0 : decode cX7_init 0 = .ok (.aload_n 0, 1) := dk_42 (dk_at dksX7_init_0 0 rfl rfl)
theorem dX7_init_1 : decode cX7_init 1 = .ok (.aload_n 1, 1) := dk_43 (dk_at dksX7_init_0 1 rfl rfl)
theorem dX7_init_2 : decode cX7_init 2 = .ok (.putfield 3, 3) := dk_181 0 3 (dk_at dksX7_init_0 2 rfl rfl)
theorem dX7_init_5 : decode cX7_init 5 = .ok (.aload_n 0, 1) := dk_42 (dk_at dksX7_init_0 5 rfl rfl)
theorem dX7_init_6 : decode cX7_init 6 = .ok (.invokespecial 9, 3) := dk_183 0 9 (dk_at dksX7_init_0 6 rfl rfl)
theorem dX7_init_9 : decode cX7_init 9 = .ok (.return_, 1) := dk_177 (dk_at dksX7_init_0 9 rfl rfl)
abbrev cX7_parse : ByteArray := prog_11_method_6_code
def yX7_parse : MethodName := ⟨RX7, "parse", "()LGameCalculator$Expression;"⟩
def dkwX7_parse_1 : List UInt8 := [182, 0, 23, 160, 0, 7, 4, 167, 0, 4, 3, 182, 0, 46, 43, 176]
abbrev dktX7_parse_1 : List UInt8 := dkwX7_parse_1 ++ []
def dkwX7_parse_0 : List UInt8 := [42, 182, 0, 50, 76, 42, 182, 0, 38, 61, 42, 42, 180, 0, 15, 42, 180, 0, 3, 180, 0, 19]
abbrev dktX7_parse_0 : List UInt8 := dkwX7_parse_0 ++ dktX7_parse_1
theorem dksX7_parse_0 : cX7_parse.data.toList.drop 0 = dktX7_parse_0 := by decide +kernel
theorem dksX7_parse_1 : cX7_parse.data.toList.drop 22 = dktX7_parse_1 := dk_seg dksX7_parse_0 22 rfl rfl
theorem dX7_parse_0 : decode cX7_parse 0 = .ok (.aload_n 0, 1) := dk_42 (dk_at dksX7_parse_0 0 rfl rfl)
theorem dX7_parse_1 : decode cX7_parse 1 = .ok (.invokevirtual 50, 3) := dk_182 0 50 (dk_at dksX7_parse_0 1 rfl rfl)
theorem dX7_parse_4 : decode cX7_parse 4 = .ok (.astore_n 1, 1) := dk_76 (dk_at dksX7_parse_0 4 rfl rfl)
theorem dX7_parse_5 : decode cX7_parse 5 = .ok (.aload_n 0, 1) := dk_42 (dk_at dksX7_parse_0 5 rfl rfl)
theorem dX7_parse_6 : decode cX7_parse 6 = .ok (.invokevirtual 38, 3) := dk_182 0 38 (dk_at dksX7_parse_0 6 rfl rfl)
theorem dX7_parse_9 : decode cX7_parse 9 = .ok (.istore_n 2, 1) := dk_61 (dk_at dksX7_parse_0 9 rfl rfl)
theorem dX7_parse_10 : decode cX7_parse 10 = .ok (.aload_n 0, 1) := dk_42 (dk_at dksX7_parse_0 10 rfl rfl)
theorem dX7_parse_11 : decode cX7_parse 11 = .ok (.aload_n 0, 1) := dk_42 (dk_at dksX7_parse_0 11 rfl rfl)
theorem dX7_parse_12 : decode cX7_parse 12 = .ok (.getfield 15, 3) := dk_180 0 15 (dk_at dksX7_parse_0 12 rfl rfl)
theorem dX7_parse_15 : decode cX7_parse 15 = .ok (.aload_n 0, 1) := dk_42 (dk_at dksX7_parse_0 15 rfl rfl)
theorem dX7_parse_16 : decode cX7_parse 16 = .ok (.getfield 3, 3) := dk_180 0 3 (dk_at dksX7_parse_0 16 rfl rfl)
theorem dX7_parse_19 : decode cX7_parse 19 = .ok (.getfield 19, 3) := dk_180 0 19 (dk_at dksX7_parse_0 19 rfl rfl)
theorem dX7_parse_22 : decode cX7_parse 22 = .ok (.invokevirtual 23, 3) := dk_182 0 23 (dk_at dksX7_parse_1 0 rfl rfl)
theorem dX7_parse_25 : decode cX7_parse 25 = .ok (.if_icmp .ne 7, 3) := dk_160 0 7 (dk_at dksX7_parse_1 3 rfl rfl)
theorem dX7_parse_28 : decode cX7_parse 28 = .ok (.iconst 1, 1) := dk_4 (dk_at dksX7_parse_1 6 rfl rfl)
theorem dX7_parse_29 : decode cX7_parse 29 = .ok (.goto 4, 3) := dk_167 0 4 (dk_at dksX7_parse_1 7 rfl rfl)
theorem dX7_parse_32 : decode cX7_parse 32 = .ok (.iconst 0, 1) := dk_3 (dk_at dksX7_parse_1 10 rfl rfl)
theorem dX7_parse_33 : decode cX7_parse 33 = .ok (.invokevirtual 46, 3) := dk_182 0 46 (dk_at dksX7_parse_1 11 rfl rfl)
theorem dX7_parse_36 : decode cX7_parse 36 = .ok (.aload_n 1, 1) := dk_43 (dk_at dksX7_parse_1 14 rfl rfl)
theorem dX7_parse_37 : decode cX7_parse 37 = .ok (.areturn, 1) := dk_176 (dk_at dksX7_parse_1 15 rfl rfl)
abbrev cX7_expression : ByteArray := prog_11_method_7_code
def yX7_expression : MethodName := ⟨RX7, "expression", "()LGameCalculator$Expression;"⟩
def dkwX7_expression_5 : List UInt8 := [167, 255, 172, 44, 176]
abbrev dktX7_expression_5 : List UInt8 := dkwX7_expression_5 ++ []
def dkwX7_expression_4 : List UInt8 := [187, 0, 57, 89, 42, 180, 0, 3, 25, 4, 183, 0, 59, 167, 0, 5, 25, 4, 183, 0, 64, 77]
abbrev dktX7_expression_4 : List UInt8 := dkwX7_expression_4 ++ dktX7_expression_5
def dkwX7_expression_3 : List UInt8 := [96, 181, 0, 15, 42, 182, 0, 54, 58, 4, 187, 0, 62, 89, 42, 180, 0, 3, 44, 29, 153, 0, 19]
abbrev dktX7_expression_3 : List UInt8 := dkwX7_expression_3 ++ dktX7_expression_4
def dkwX7_expression_2 : List UInt8 := [160, 0, 72, 42, 16, 45, 182, 0, 42, 62, 42, 89, 180, 0, 15, 29, 153, 0, 7, 3, 167, 0, 4, 4]
abbrev dktX7_expression_2 : List UInt8 := dkwX7_expression_2 ++ dktX7_expression_3
def dkwX7_expression_1 : List UInt8 := [44, 183, 0, 59, 167, 0, 4, 44, 77, 42, 182, 0, 38, 16, 43, 159, 0, 12, 42, 182, 0, 38, 16, 45]
abbrev dktX7_expression_1 : List UInt8 := dkwX7_expression_1 ++ dktX7_expression_2
def dkwX7_expression_0 : List UInt8 := [42, 16, 45, 182, 0, 42, 60, 42, 182, 0, 54, 77, 27, 153, 0, 18, 187, 0, 57, 89, 42, 180, 0, 3]
abbrev dktX7_expression_0 : List UInt8 := dkwX7_expression_0 ++ dktX7_expression_1
theorem dksX7_expression_0 : cX7_expression.data.toList.drop 0 = dktX7_expression_0 := by decide +kernel
theorem dksX7_expression_1 : cX7_expression.data.toList.drop 24 = dktX7_expression_1 := dk_seg dksX7_expression_0 24 rfl rfl
theorem dksX7_expression_2 : cX7_expression.data.toList.drop 48 = dktX7_expression_2 := dk_seg dksX7_expression_1 24 rfl rfl
theorem dksX7_expression_3 : cX7_expression.data.toList.drop 72 = dktX7_expression_3 := dk_seg dksX7_expression_2 24 rfl rfl
theorem dksX7_expression_4 : cX7_expression.data.toList.drop 95 = dktX7_expression_4 := dk_seg dksX7_expression_3 23 rfl rfl
theorem dksX7_expression_5 : cX7_expression.data.toList.drop 117 = dktX7_expression_5 := dk_seg dksX7_expression_4 22 rfl rfl
theorem dX7_expression_0 : decode cX7_expression 0 = .ok (.aload_n 0, 1) := dk_42 (dk_at dksX7_expression_0 0 rfl rfl)
theorem dX7_expression_1 : decode cX7_expression 1 = .ok (.bipush 45, 2) := dk_16 45 (dk_at dksX7_expression_0 1 rfl rfl)
theorem dX7_expression_3 : decode cX7_expression 3 = .ok (.invokevirtual 42, 3) := dk_182 0 42 (dk_at dksX7_expression_0 3 rfl rfl)
theorem dX7_expression_6 : decode cX7_expression 6 = .ok (.istore_n 1, 1) := dk_60 (dk_at dksX7_expression_0 6 rfl rfl)
theorem dX7_expression_7 : decode cX7_expression 7 = .ok (.aload_n 0, 1) := dk_42 (dk_at dksX7_expression_0 7 rfl rfl)
theorem dX7_expression_8 : decode cX7_expression 8 = .ok (.invokevirtual 54, 3) := dk_182 0 54 (dk_at dksX7_expression_0 8 rfl rfl)
theorem dX7_expression_11 : decode cX7_expression 11 = .ok (.astore_n 2, 1) := dk_77 (dk_at dksX7_expression_0 11 rfl rfl)
theorem dX7_expression_12 : decode cX7_expression 12 = .ok (.iload_n 1, 1) := dk_27 (dk_at dksX7_expression_0 12 rfl rfl)
theorem dX7_expression_13 : decode cX7_expression 13 = .ok (.ifCond .eq 18, 3) := dk_153 0 18 (dk_at dksX7_expression_0 13 rfl rfl)
theorem dX7_expression_16 : decode cX7_expression 16 = .ok (.new 57, 3) := dk_187 0 57 (dk_at dksX7_expression_0 16 rfl rfl)
theorem dX7_expression_19 : decode cX7_expression 19 = .ok (.dup, 1) := dk_89 (dk_at dksX7_expression_0 19 rfl rfl)
theorem dX7_expression_20 : decode cX7_expression 20 = .ok (.aload_n 0, 1) := dk_42 (dk_at dksX7_expression_0 20 rfl rfl)
theorem dX7_expression_21 : decode cX7_expression 21 = .ok (.getfield 3, 3) := dk_180 0 3 (dk_at dksX7_expression_0 21 rfl rfl)
theorem dX7_expression_24 : decode cX7_expression 24 = .ok (.aload_n 2, 1) := dk_44 (dk_at dksX7_expression_1 0 rfl rfl)
theorem dX7_expression_25 : decode cX7_expression 25 = .ok (.invokespecial 59, 3) := dk_183 0 59 (dk_at dksX7_expression_1 1 rfl rfl)
theorem dX7_expression_28 : decode cX7_expression 28 = .ok (.goto 4, 3) := dk_167 0 4 (dk_at dksX7_expression_1 4 rfl rfl)
theorem dX7_expression_31 : decode cX7_expression 31 = .ok (.aload_n 2, 1) := dk_44 (dk_at dksX7_expression_1 7 rfl rfl)
theorem dX7_expression_32 : decode cX7_expression 32 = .ok (.astore_n 2, 1) := dk_77 (dk_at dksX7_expression_1 8 rfl rfl)
theorem dX7_expression_33 : decode cX7_expression 33 = .ok (.aload_n 0, 1) := dk_42 (dk_at dksX7_expression_1 9 rfl rfl)
theorem dX7_expression_34 : decode cX7_expression 34 = .ok (.invokevirtual 38, 3) := dk_182 0 38 (dk_at dksX7_expression_1 10 rfl rfl)
theorem dX7_expression_37 : decode cX7_expression 37 = .ok (.bipush 43, 2) := dk_16 43 (dk_at dksX7_expression_1 13 rfl rfl)
theorem dX7_expression_39 : decode cX7_expression 39 = .ok (.if_icmp .eq 12, 3) := dk_159 0 12 (dk_at dksX7_expression_1 15 rfl rfl)
theorem dX7_expression_42 : decode cX7_expression 42 = .ok (.aload_n 0, 1) := dk_42 (dk_at dksX7_expression_1 18 rfl rfl)
theorem dX7_expression_43 : decode cX7_expression 43 = .ok (.invokevirtual 38, 3) := dk_182 0 38 (dk_at dksX7_expression_1 19 rfl rfl)
theorem dX7_expression_46 : decode cX7_expression 46 = .ok (.bipush 45, 2) := dk_16 45 (dk_at dksX7_expression_1 22 rfl rfl)
theorem dX7_expression_48 : decode cX7_expression 48 = .ok (.if_icmp .ne 72, 3) := dk_160 0 72 (dk_at dksX7_expression_2 0 rfl rfl)
theorem dX7_expression_51 : decode cX7_expression 51 = .ok (.aload_n 0, 1) := dk_42 (dk_at dksX7_expression_2 3 rfl rfl)
theorem dX7_expression_52 : decode cX7_expression 52 = .ok (.bipush 45, 2) := dk_16 45 (dk_at dksX7_expression_2 4 rfl rfl)
theorem dX7_expression_54 : decode cX7_expression 54 = .ok (.invokevirtual 42, 3) := dk_182 0 42 (dk_at dksX7_expression_2 6 rfl rfl)
theorem dX7_expression_57 : decode cX7_expression 57 = .ok (.istore_n 3, 1) := dk_62 (dk_at dksX7_expression_2 9 rfl rfl)
theorem dX7_expression_58 : decode cX7_expression 58 = .ok (.aload_n 0, 1) := dk_42 (dk_at dksX7_expression_2 10 rfl rfl)
theorem dX7_expression_59 : decode cX7_expression 59 = .ok (.dup, 1) := dk_89 (dk_at dksX7_expression_2 11 rfl rfl)
theorem dX7_expression_60 : decode cX7_expression 60 = .ok (.getfield 15, 3) := dk_180 0 15 (dk_at dksX7_expression_2 12 rfl rfl)
theorem dX7_expression_63 : decode cX7_expression 63 = .ok (.iload_n 3, 1) := dk_29 (dk_at dksX7_expression_2 15 rfl rfl)
theorem dX7_expression_64 : decode cX7_expression 64 = .ok (.ifCond .eq 7, 3) := dk_153 0 7 (dk_at dksX7_expression_2 16 rfl rfl)
theorem dX7_expression_67 : decode cX7_expression 67 = .ok (.iconst 0, 1) := dk_3 (dk_at dksX7_expression_2 19 rfl rfl)
theorem dX7_expression_68 : decode cX7_expression 68 = .ok (.goto 4, 3) := dk_167 0 4 (dk_at dksX7_expression_2 20 rfl rfl)
theorem dX7_expression_71 : decode cX7_expression 71 = .ok (.iconst 1, 1) := dk_4 (dk_at dksX7_expression_2 23 rfl rfl)
theorem dX7_expression_72 : decode cX7_expression 72 = .ok (.iadd, 1) := dk_96 (dk_at dksX7_expression_3 0 rfl rfl)
theorem dX7_expression_73 : decode cX7_expression 73 = .ok (.putfield 15, 3) := dk_181 0 15 (dk_at dksX7_expression_3 1 rfl rfl)
theorem dX7_expression_76 : decode cX7_expression 76 = .ok (.aload_n 0, 1) := dk_42 (dk_at dksX7_expression_3 4 rfl rfl)
theorem dX7_expression_77 : decode cX7_expression 77 = .ok (.invokevirtual 54, 3) := dk_182 0 54 (dk_at dksX7_expression_3 5 rfl rfl)
theorem dX7_expression_80 : decode cX7_expression 80 = .ok (.astore 4, 2) := dk_58 4 (dk_at dksX7_expression_3 8 rfl rfl)
theorem dX7_expression_82 : decode cX7_expression 82 = .ok (.new 62, 3) := dk_187 0 62 (dk_at dksX7_expression_3 10 rfl rfl)
theorem dX7_expression_85 : decode cX7_expression 85 = .ok (.dup, 1) := dk_89 (dk_at dksX7_expression_3 13 rfl rfl)
theorem dX7_expression_86 : decode cX7_expression 86 = .ok (.aload_n 0, 1) := dk_42 (dk_at dksX7_expression_3 14 rfl rfl)
theorem dX7_expression_87 : decode cX7_expression 87 = .ok (.getfield 3, 3) := dk_180 0 3 (dk_at dksX7_expression_3 15 rfl rfl)
theorem dX7_expression_90 : decode cX7_expression 90 = .ok (.aload_n 2, 1) := dk_44 (dk_at dksX7_expression_3 18 rfl rfl)
theorem dX7_expression_91 : decode cX7_expression 91 = .ok (.iload_n 3, 1) := dk_29 (dk_at dksX7_expression_3 19 rfl rfl)
theorem dX7_expression_92 : decode cX7_expression 92 = .ok (.ifCond .eq 19, 3) := dk_153 0 19 (dk_at dksX7_expression_3 20 rfl rfl)
theorem dX7_expression_95 : decode cX7_expression 95 = .ok (.new 57, 3) := dk_187 0 57 (dk_at dksX7_expression_4 0 rfl rfl)
theorem dX7_expression_98 : decode cX7_expression 98 = .ok (.dup, 1) := dk_89 (dk_at dksX7_expression_4 3 rfl rfl)
theorem dX7_expression_99 : decode cX7_expression 99 = .ok (.aload_n 0, 1) := dk_42 (dk_at dksX7_expression_4 4 rfl rfl)
theorem dX7_expression_100 : decode cX7_expression 100 = .ok (.getfield 3, 3) := dk_180 0 3 (dk_at dksX7_expression_4 5 rfl rfl)
theorem dX7_expression_103 : decode cX7_expression 103 = .ok (.aload 4, 2) := dk_25 4 (dk_at dksX7_expression_4 8 rfl rfl)
theorem dX7_expression_105 : decode cX7_expression 105 = .ok (.invokespecial 59, 3) := dk_183 0 59 (dk_at dksX7_expression_4 10 rfl rfl)
theorem dX7_expression_108 : decode cX7_expression 108 = .ok (.goto 5, 3) := dk_167 0 5 (dk_at dksX7_expression_4 13 rfl rfl)
theorem dX7_expression_111 : decode cX7_expression 111 = .ok (.aload 4, 2) := dk_25 4 (dk_at dksX7_expression_4 16 rfl rfl)
theorem dX7_expression_113 : decode cX7_expression 113 = .ok (.invokespecial 64, 3) := dk_183 0 64 (dk_at dksX7_expression_4 18 rfl rfl)
theorem dX7_expression_116 : decode cX7_expression 116 = .ok (.astore_n 2, 1) := dk_77 (dk_at dksX7_expression_4 21 rfl rfl)
theorem dX7_expression_117 : decode cX7_expression 117 = .ok (.goto (-84), 3) := dk_167 255 172 (dk_at dksX7_expression_5 0 rfl rfl)
theorem dX7_expression_120 : decode cX7_expression 120 = .ok (.aload_n 2, 1) := dk_44 (dk_at dksX7_expression_5 3 rfl rfl)
theorem dX7_expression_121 : decode cX7_expression 121 = .ok (.areturn, 1) := dk_176 (dk_at dksX7_expression_5 4 rfl rfl)
abbrev cX7_takeIf : ByteArray := prog_11_method_4_code
def yX7_takeIf : MethodName := ⟨RX7, "takeIf", "(C)Z"⟩
def dkwX7_takeIf_1 : List UInt8 := [167, 0, 4, 3, 96, 181, 0, 15, 28, 172]
abbrev dktX7_takeIf_1 : List UInt8 := dkwX7_takeIf_1 ++ []
def dkwX7_takeIf_0 : List UInt8 := [42, 182, 0, 38, 27, 160, 0, 7, 4, 167, 0, 4, 3, 61, 42, 89, 180, 0, 15, 28, 153, 0, 7, 4]
abbrev dktX7_takeIf_0 : List UInt8 := dkwX7_takeIf_0 ++ dktX7_takeIf_1
theorem dksX7_takeIf_0 : cX7_takeIf.data.toList.drop 0 = dktX7_takeIf_0 := by decide +kernel
theorem dksX7_takeIf_1 : cX7_takeIf.data.toList.drop 24 = dktX7_takeIf_1 := dk_seg dksX7_takeIf_0 24 rfl rfl
theorem dX7_takeIf_0 : decode cX7_takeIf 0 = .ok (.aload_n 0, 1) := dk_42 (dk_at dksX7_takeIf_0 0 rfl rfl)
theorem dX7_takeIf_1 : decode cX7_takeIf 1 = .ok (.invokevirtual 38, 3) := dk_182 0 38 (dk_at dksX7_takeIf_0 1 rfl rfl)
theorem dX7_takeIf_4 : decode cX7_takeIf 4 = .ok (.iload_n 1, 1) := dk_27 (dk_at dksX7_takeIf_0 4 rfl rfl)
theorem dX7_takeIf_5 : decode cX7_takeIf 5 = .ok (.if_icmp .ne 7, 3) := dk_160 0 7 (dk_at dksX7_takeIf_0 5 rfl rfl)
theorem dX7_takeIf_8 : decode cX7_takeIf 8 = .ok (.iconst 1, 1) := dk_4 (dk_at dksX7_takeIf_0 8 rfl rfl)
theorem dX7_takeIf_9 : decode cX7_takeIf 9 = .ok (.goto 4, 3) := dk_167 0 4 (dk_at dksX7_takeIf_0 9 rfl rfl)
theorem dX7_takeIf_12 : decode cX7_takeIf 12 = .ok (.iconst 0, 1) := dk_3 (dk_at dksX7_takeIf_0 12 rfl rfl)
theorem dX7_takeIf_13 : decode cX7_takeIf 13 = .ok (.istore_n 2, 1) := dk_61 (dk_at dksX7_takeIf_0 13 rfl rfl)
theorem dX7_takeIf_14 : decode cX7_takeIf 14 = .ok (.aload_n 0, 1) := dk_42 (dk_at dksX7_takeIf_0 14 rfl rfl)
theorem dX7_takeIf_15 : decode cX7_takeIf 15 = .ok (.dup, 1) := dk_89 (dk_at dksX7_takeIf_0 15 rfl rfl)
theorem dX7_takeIf_16 : decode cX7_takeIf 16 = .ok (.getfield 15, 3) := dk_180 0 15 (dk_at dksX7_takeIf_0 16 rfl rfl)
theorem dX7_takeIf_19 : decode cX7_takeIf 19 = .ok (.iload_n 2, 1) := dk_28 (dk_at dksX7_takeIf_0 19 rfl rfl)
theorem dX7_takeIf_20 : decode cX7_takeIf 20 = .ok (.ifCond .eq 7, 3) := dk_153 0 7 (dk_at dksX7_takeIf_0 20 rfl rfl)
theorem dX7_takeIf_23 : decode cX7_takeIf 23 = .ok (.iconst 1, 1) := dk_4 (dk_at dksX7_takeIf_0 23 rfl rfl)
theorem dX7_takeIf_24 : decode cX7_takeIf 24 = .ok (.goto 4, 3) := dk_167 0 4 (dk_at dksX7_takeIf_1 0 rfl rfl)
theorem dX7_takeIf_27 : decode cX7_takeIf 27 = .ok (.iconst 0, 1) := dk_3 (dk_at dksX7_takeIf_1 3 rfl rfl)
theorem dX7_takeIf_28 : decode cX7_takeIf 28 = .ok (.iadd, 1) := dk_96 (dk_at dksX7_takeIf_1 4 rfl rfl)
theorem dX7_takeIf_29 : decode cX7_takeIf 29 = .ok (.putfield 15, 3) := dk_181 0 15 (dk_at dksX7_takeIf_1 5 rfl rfl)
theorem dX7_takeIf_32 : decode cX7_takeIf 32 = .ok (.iload_n 2, 1) := dk_28 (dk_at dksX7_takeIf_1 8 rfl rfl)
theorem dX7_takeIf_33 : decode cX7_takeIf 33 = .ok (.ireturn, 1) := dk_172 (dk_at dksX7_takeIf_1 9 rfl rfl)
abbrev cX7_here : ByteArray := prog_11_method_2_code
def yX7_here : MethodName := ⟨RX7, "here", "()C"⟩
def dkwX7_here_3 : List UInt8 := [180, 0, 19, 42, 180, 0, 15, 182, 0, 29, 167, 0, 4, 3, 172]
abbrev dktX7_here_3 : List UInt8 := dkwX7_here_3 ++ []
def dkwX7_here_2 : List UInt8 := [167, 255, 210, 42, 180, 0, 15, 42, 180, 0, 3, 180, 0, 19, 182, 0, 23, 162, 0, 20, 42, 180, 0, 3]
abbrev dktX7_here_2 : List UInt8 := dkwX7_here_2 ++ dktX7_here_3
def dkwX7_here_1 : List UInt8 := [42, 180, 0, 15, 182, 0, 29, 16, 32, 160, 0, 16, 42, 89, 180, 0, 15, 4, 96, 181, 0, 15]
abbrev dktX7_here_1 : List UInt8 := dkwX7_here_1 ++ dktX7_here_2
def dkwX7_here_0 : List UInt8 := [42, 180, 0, 15, 42, 180, 0, 3, 180, 0, 19, 182, 0, 23, 162, 0, 35, 42, 180, 0, 3, 180, 0, 19]
abbrev dktX7_here_0 : List UInt8 := dkwX7_here_0 ++ dktX7_here_1
theorem dksX7_here_0 : cX7_here.data.toList.drop 0 = dktX7_here_0 := by decide +kernel
theorem dksX7_here_1 : cX7_here.data.toList.drop 24 = dktX7_here_1 := dk_seg dksX7_here_0 24 rfl rfl
theorem dksX7_here_2 : cX7_here.data.toList.drop 46 = dktX7_here_2 := dk_seg dksX7_here_1 22 rfl rfl
theorem dksX7_here_3 : cX7_here.data.toList.drop 70 = dktX7_here_3 := dk_seg dksX7_here_2 24 rfl rfl
theorem dX7_here_0 : decode cX7_here 0 = .ok (.aload_n 0, 1) := dk_42 (dk_at dksX7_here_0 0 rfl rfl)
theorem dX7_here_1 : decode cX7_here 1 = .ok (.getfield 15, 3) := dk_180 0 15 (dk_at dksX7_here_0 1 rfl rfl)
theorem dX7_here_4 : decode cX7_here 4 = .ok (.aload_n 0, 1) := dk_42 (dk_at dksX7_here_0 4 rfl rfl)
theorem dX7_here_5 : decode cX7_here 5 = .ok (.getfield 3, 3) := dk_180 0 3 (dk_at dksX7_here_0 5 rfl rfl)
theorem dX7_here_8 : decode cX7_here 8 = .ok (.getfield 19, 3) := dk_180 0 19 (dk_at dksX7_here_0 8 rfl rfl)
theorem dX7_here_11 : decode cX7_here 11 = .ok (.invokevirtual 23, 3) := dk_182 0 23 (dk_at dksX7_here_0 11 rfl rfl)
theorem dX7_here_14 : decode cX7_here 14 = .ok (.if_icmp .ge 35, 3) := dk_162 0 35 (dk_at dksX7_here_0 14 rfl rfl)
theorem dX7_here_17 : decode cX7_here 17 = .ok (.aload_n 0, 1) := dk_42 (dk_at dksX7_here_0 17 rfl rfl)
theorem dX7_here_18 : decode cX7_here 18 = .ok (.getfield 3, 3) := dk_180 0 3 (dk_at dksX7_here_0 18 rfl rfl)
theorem dX7_here_21 : decode cX7_here 21 = .ok (.getfield 19, 3) := dk_180 0 19 (dk_at dksX7_here_0 21 rfl rfl)
theorem dX7_here_24 : decode cX7_here 24 = .ok (.aload_n 0, 1) := dk_42 (dk_at dksX7_here_1 0 rfl rfl)
theorem dX7_here_25 : decode cX7_here 25 = .ok (.getfield 15, 3) := dk_180 0 15 (dk_at dksX7_here_1 1 rfl rfl)
theorem dX7_here_28 : decode cX7_here 28 = .ok (.invokevirtual 29, 3) := dk_182 0 29 (dk_at dksX7_here_1 4 rfl rfl)
theorem dX7_here_31 : decode cX7_here 31 = .ok (.bipush 32, 2) := dk_16 32 (dk_at dksX7_here_1 7 rfl rfl)
theorem dX7_here_33 : decode cX7_here 33 = .ok (.if_icmp .ne 16, 3) := dk_160 0 16 (dk_at dksX7_here_1 9 rfl rfl)
theorem dX7_here_36 : decode cX7_here 36 = .ok (.aload_n 0, 1) := dk_42 (dk_at dksX7_here_1 12 rfl rfl)
theorem dX7_here_37 : decode cX7_here 37 = .ok (.dup, 1) := dk_89 (dk_at dksX7_here_1 13 rfl rfl)
theorem dX7_here_38 : decode cX7_here 38 = .ok (.getfield 15, 3) := dk_180 0 15 (dk_at dksX7_here_1 14 rfl rfl)
theorem dX7_here_41 : decode cX7_here 41 = .ok (.iconst 1, 1) := dk_4 (dk_at dksX7_here_1 17 rfl rfl)
theorem dX7_here_42 : decode cX7_here 42 = .ok (.iadd, 1) := dk_96 (dk_at dksX7_here_1 18 rfl rfl)
theorem dX7_here_43 : decode cX7_here 43 = .ok (.putfield 15, 3) := dk_181 0 15 (dk_at dksX7_here_1 19 rfl rfl)
theorem dX7_here_46 : decode cX7_here 46 = .ok (.goto (-46), 3) := dk_167 255 210 (dk_at dksX7_here_2 0 rfl rfl)
theorem dX7_here_49 : decode cX7_here 49 = .ok (.aload_n 0, 1) := dk_42 (dk_at dksX7_here_2 3 rfl rfl)
theorem dX7_here_50 : decode cX7_here 50 = .ok (.getfield 15, 3) := dk_180 0 15 (dk_at dksX7_here_2 4 rfl rfl)
theorem dX7_here_53 : decode cX7_here 53 = .ok (.aload_n 0, 1) := dk_42 (dk_at dksX7_here_2 7 rfl rfl)
theorem dX7_here_54 : decode cX7_here 54 = .ok (.getfield 3, 3) := dk_180 0 3 (dk_at dksX7_here_2 8 rfl rfl)
theorem dX7_here_57 : decode cX7_here 57 = .ok (.getfield 19, 3) := dk_180 0 19 (dk_at dksX7_here_2 11 rfl rfl)
theorem dX7_here_60 : decode cX7_here 60 = .ok (.invokevirtual 23, 3) := dk_182 0 23 (dk_at dksX7_here_2 14 rfl rfl)
theorem dX7_here_63 : decode cX7_here 63 = .ok (.if_icmp .ge 20, 3) := dk_162 0 20 (dk_at dksX7_here_2 17 rfl rfl)
theorem dX7_here_66 : decode cX7_here 66 = .ok (.aload_n 0, 1) := dk_42 (dk_at dksX7_here_2 20 rfl rfl)
theorem dX7_here_67 : decode cX7_here 67 = .ok (.getfield 3, 3) := dk_180 0 3 (dk_at dksX7_here_2 21 rfl rfl)
theorem dX7_here_70 : decode cX7_here 70 = .ok (.getfield 19, 3) := dk_180 0 19 (dk_at dksX7_here_3 0 rfl rfl)
theorem dX7_here_73 : decode cX7_here 73 = .ok (.aload_n 0, 1) := dk_42 (dk_at dksX7_here_3 3 rfl rfl)
theorem dX7_here_74 : decode cX7_here 74 = .ok (.getfield 15, 3) := dk_180 0 15 (dk_at dksX7_here_3 4 rfl rfl)
theorem dX7_here_77 : decode cX7_here 77 = .ok (.invokevirtual 29, 3) := dk_182 0 29 (dk_at dksX7_here_3 7 rfl rfl)
theorem dX7_here_80 : decode cX7_here 80 = .ok (.goto 4, 3) := dk_167 0 4 (dk_at dksX7_here_3 10 rfl rfl)
theorem dX7_here_83 : decode cX7_here 83 = .ok (.iconst 0, 1) := dk_3 (dk_at dksX7_here_3 13 rfl rfl)
theorem dX7_here_84 : decode cX7_here 84 = .ok (.ireturn, 1) := dk_172 (dk_at dksX7_here_3 14 rfl rfl)
abbrev cX7_term : ByteArray := prog_11_method_12_code
def yX7_term : MethodName := ⟨RX7, "term", "()LGameCalculator$Expression;"⟩
def dkwX7_term_9 : List UInt8 := [27, 182, 0, 114, 176]
abbrev dktX7_term_9 : List UInt8 := dkwX7_term_9 ++ []
def dkwX7_term_8 : List UInt8 := [16, 11, 182, 0, 80, 54, 5, 187, 0, 83, 89, 42, 21, 5, 186, 0, 113, 0, 0, 183, 0, 89, 176, 42]
abbrev dktX7_term_8 : List UInt8 := dkwX7_term_8 ++ dktX7_term_9
def dkwX7_term_7 : List UInt8 := [182, 0, 107, 54, 4, 187, 0, 83, 89, 42, 21, 4, 186, 0, 112, 0, 0, 183, 0, 89, 176, 42, 5]
abbrev dktX7_term_7 : List UInt8 := dkwX7_term_7 ++ dktX7_term_8
def dkwX7_term_6 : List UInt8 := [4, 7, 182, 0, 107, 62, 187, 0, 83, 89, 42, 29, 186, 0, 111, 0, 0, 183, 0, 89, 176, 42, 4, 7]
abbrev dktX7_term_6 : List UInt8 := dkwX7_term_6 ++ dktX7_term_7
def dkwX7_term_5 : List UInt8 := [42, 3, 16, 6, 182, 0, 107, 61, 187, 0, 83, 89, 42, 28, 186, 0, 110, 0, 0, 183, 0, 89, 176, 42]
abbrev dktX7_term_5 : List UInt8 := dkwX7_term_5 ++ dktX7_term_6
def dkwX7_term_4 : List UInt8 := [171, 0, 0, 0, 0, 136, 0, 0, 0, 4, 0, 0, 0, 35, 0, 0, 0, 111, 0, 0, 0, 42, 0, 0, 0, 42, 0, 0, 0, 94, 0, 0, 0, 65, 0, 0, 0, 118, 0, 0, 0, 87]
abbrev dktX7_term_4 : List UInt8 := dkwX7_term_4 ++ dktX7_term_5
def dkwX7_term_3 : List UInt8 := [89, 180, 0, 15, 4, 96, 181, 0, 15, 27]
abbrev dktX7_term_3 : List UInt8 := dkwX7_term_3 ++ dktX7_term_4
def dkwX7_term_2 : List UInt8 := [162, 0, 19, 27, 16, 40, 159, 0, 9, 27, 16, 123, 160, 0, 7, 4, 167, 0, 4, 3, 182, 0, 46, 42]
abbrev dktX7_term_2 : List UInt8 := dkwX7_term_2 ++ dktX7_term_3
def dkwX7_term_1 : List UInt8 := [27, 16, 94, 159, 0, 36, 27, 16, 118, 159, 0, 30, 27, 16, 35, 159, 0, 24, 42, 180, 0, 104, 16, 6]
abbrev dktX7_term_1 : List UInt8 := dkwX7_term_1 ++ dktX7_term_2
def dkwX7_term_0 : List UInt8 := [42, 182, 0, 38, 60, 27, 184, 0, 71, 153, 0, 8, 42, 182, 0, 101, 176, 42, 27, 16, 42, 159, 0, 42]
abbrev dktX7_term_0 : List UInt8 := dkwX7_term_0 ++ dktX7_term_1
theorem dksX7_term_0 : cX7_term.data.toList.drop 0 = dktX7_term_0 := by decide +kernel
theorem dksX7_term_1 : cX7_term.data.toList.drop 24 = dktX7_term_1 := dk_seg dksX7_term_0 24 rfl rfl
theorem dksX7_term_2 : cX7_term.data.toList.drop 48 = dktX7_term_2 := dk_seg dksX7_term_1 24 rfl rfl
theorem dksX7_term_3 : cX7_term.data.toList.drop 72 = dktX7_term_3 := dk_seg dksX7_term_2 24 rfl rfl
theorem dksX7_term_4 : cX7_term.data.toList.drop 82 = dktX7_term_4 := dk_seg dksX7_term_3 10 rfl rfl
theorem dksX7_term_5 : cX7_term.data.toList.drop 124 = dktX7_term_5 := dk_seg dksX7_term_4 42 rfl rfl
theorem dksX7_term_6 : cX7_term.data.toList.drop 148 = dktX7_term_6 := dk_seg dksX7_term_5 24 rfl rfl
theorem dksX7_term_7 : cX7_term.data.toList.drop 172 = dktX7_term_7 := dk_seg dksX7_term_6 24 rfl rfl
theorem dksX7_term_8 : cX7_term.data.toList.drop 195 = dktX7_term_8 := dk_seg dksX7_term_7 23 rfl rfl
theorem dksX7_term_9 : cX7_term.data.toList.drop 219 = dktX7_term_9 := dk_seg dksX7_term_8 24 rfl rfl
theorem dX7_term_0 : decode cX7_term 0 = .ok (.aload_n 0, 1) := dk_42 (dk_at dksX7_term_0 0 rfl rfl)
theorem dX7_term_1 : decode cX7_term 1 = .ok (.invokevirtual 38, 3) := dk_182 0 38 (dk_at dksX7_term_0 1 rfl rfl)
theorem dX7_term_4 : decode cX7_term 4 = .ok (.istore_n 1, 1) := dk_60 (dk_at dksX7_term_0 4 rfl rfl)
theorem dX7_term_5 : decode cX7_term 5 = .ok (.iload_n 1, 1) := dk_27 (dk_at dksX7_term_0 5 rfl rfl)
theorem dX7_term_6 : decode cX7_term 6 = .ok (.invokestatic 71, 3) := dk_184 0 71 (dk_at dksX7_term_0 6 rfl rfl)
theorem dX7_term_9 : decode cX7_term 9 = .ok (.ifCond .eq 8, 3) := dk_153 0 8 (dk_at dksX7_term_0 9 rfl rfl)
theorem dX7_term_12 : decode cX7_term 12 = .ok (.aload_n 0, 1) := dk_42 (dk_at dksX7_term_0 12 rfl rfl)
theorem dX7_term_13 : decode cX7_term 13 = .ok (.invokevirtual 101, 3) := dk_182 0 101 (dk_at dksX7_term_0 13 rfl rfl)
theorem dX7_term_16 : decode cX7_term 16 = .ok (.areturn, 1) := dk_176 (dk_at dksX7_term_0 16 rfl rfl)
theorem dX7_term_17 : decode cX7_term 17 = .ok (.aload_n 0, 1) := dk_42 (dk_at dksX7_term_0 17 rfl rfl)
theorem dX7_term_18 : decode cX7_term 18 = .ok (.iload_n 1, 1) := dk_27 (dk_at dksX7_term_0 18 rfl rfl)
theorem dX7_term_19 : decode cX7_term 19 = .ok (.bipush 42, 2) := dk_16 42 (dk_at dksX7_term_0 19 rfl rfl)
theorem dX7_term_21 : decode cX7_term 21 = .ok (.if_icmp .eq 42, 3) := dk_159 0 42 (dk_at dksX7_term_0 21 rfl rfl)
theorem dX7_term_24 : decode cX7_term 24 = .ok (.iload_n 1, 1) := dk_27 (dk_at dksX7_term_1 0 rfl rfl)
theorem dX7_term_25 : decode cX7_term 25 = .ok (.bipush 94, 2) := dk_16 94 (dk_at dksX7_term_1 1 rfl rfl)
theorem dX7_term_27 : decode cX7_term 27 = .ok (.if_icmp .eq 36, 3) := dk_159 0 36 (dk_at dksX7_term_1 3 rfl rfl)
theorem dX7_term_30 : decode cX7_term 30 = .ok (.iload_n 1, 1) := dk_27 (dk_at dksX7_term_1 6 rfl rfl)
theorem dX7_term_31 : decode cX7_term 31 = .ok (.bipush 118, 2) := dk_16 118 (dk_at dksX7_term_1 7 rfl rfl)
theorem dX7_term_33 : decode cX7_term 33 = .ok (.if_icmp .eq 30, 3) := dk_159 0 30 (dk_at dksX7_term_1 9 rfl rfl)
theorem dX7_term_36 : decode cX7_term 36 = .ok (.iload_n 1, 1) := dk_27 (dk_at dksX7_term_1 12 rfl rfl)
theorem dX7_term_37 : decode cX7_term 37 = .ok (.bipush 35, 2) := dk_16 35 (dk_at dksX7_term_1 13 rfl rfl)
theorem dX7_term_39 : decode cX7_term 39 = .ok (.if_icmp .eq 24, 3) := dk_159 0 24 (dk_at dksX7_term_1 15 rfl rfl)
theorem dX7_term_42 : decode cX7_term 42 = .ok (.aload_n 0, 1) := dk_42 (dk_at dksX7_term_1 18 rfl rfl)
theorem dX7_term_43 : decode cX7_term 43 = .ok (.getfield 104, 3) := dk_180 0 104 (dk_at dksX7_term_1 19 rfl rfl)
theorem dX7_term_46 : decode cX7_term 46 = .ok (.bipush 6, 2) := dk_16 6 (dk_at dksX7_term_1 22 rfl rfl)
theorem dX7_term_48 : decode cX7_term 48 = .ok (.if_icmp .ge 19, 3) := dk_162 0 19 (dk_at dksX7_term_2 0 rfl rfl)
theorem dX7_term_51 : decode cX7_term 51 = .ok (.iload_n 1, 1) := dk_27 (dk_at dksX7_term_2 3 rfl rfl)
theorem dX7_term_52 : decode cX7_term 52 = .ok (.bipush 40, 2) := dk_16 40 (dk_at dksX7_term_2 4 rfl rfl)
theorem dX7_term_54 : decode cX7_term 54 = .ok (.if_icmp .eq 9, 3) := dk_159 0 9 (dk_at dksX7_term_2 6 rfl rfl)
theorem dX7_term_57 : decode cX7_term 57 = .ok (.iload_n 1, 1) := dk_27 (dk_at dksX7_term_2 9 rfl rfl)
theorem dX7_term_58 : decode cX7_term 58 = .ok (.bipush 123, 2) := dk_16 123 (dk_at dksX7_term_2 10 rfl rfl)
theorem dX7_term_60 : decode cX7_term 60 = .ok (.if_icmp .ne 7, 3) := dk_160 0 7 (dk_at dksX7_term_2 12 rfl rfl)
theorem dX7_term_63 : decode cX7_term 63 = .ok (.iconst 1, 1) := dk_4 (dk_at dksX7_term_2 15 rfl rfl)
theorem dX7_term_64 : decode cX7_term 64 = .ok (.goto 4, 3) := dk_167 0 4 (dk_at dksX7_term_2 16 rfl rfl)
theorem dX7_term_67 : decode cX7_term 67 = .ok (.iconst 0, 1) := dk_3 (dk_at dksX7_term_2 19 rfl rfl)
theorem dX7_term_68 : decode cX7_term 68 = .ok (.invokevirtual 46, 3) := dk_182 0 46 (dk_at dksX7_term_2 20 rfl rfl)
theorem dX7_term_71 : decode cX7_term 71 = .ok (.aload_n 0, 1) := dk_42 (dk_at dksX7_term_2 23 rfl rfl)
theorem dX7_term_72 : decode cX7_term 72 = .ok (.dup, 1) := dk_89 (dk_at dksX7_term_3 0 rfl rfl)
theorem dX7_term_73 : decode cX7_term 73 = .ok (.getfield 15, 3) := dk_180 0 15 (dk_at dksX7_term_3 1 rfl rfl)
theorem dX7_term_76 : decode cX7_term 76 = .ok (.iconst 1, 1) := dk_4 (dk_at dksX7_term_3 4 rfl rfl)
theorem dX7_term_77 : decode cX7_term 77 = .ok (.iadd, 1) := dk_96 (dk_at dksX7_term_3 5 rfl rfl)
theorem dX7_term_78 : decode cX7_term 78 = .ok (.putfield 15, 3) := dk_181 0 15 (dk_at dksX7_term_3 6 rfl rfl)
theorem dX7_term_81 : decode cX7_term 81 = .ok (.iload_n 1, 1) := dk_27 (dk_at dksX7_term_3 9 rfl rfl)
theorem dX7_term_82 : decode cX7_term 82 = .ok (.lookupswitch 136 #[(35, 111), (42, 42), (94, 65), (118, 87)], 42) := by decide +kernel
theorem dX7_term_124 : decode cX7_term 124 = .ok (.aload_n 0, 1) := dk_42 (dk_at dksX7_term_5 0 rfl rfl)
theorem dX7_term_125 : decode cX7_term 125 = .ok (.iconst 0, 1) := dk_3 (dk_at dksX7_term_5 1 rfl rfl)
theorem dX7_term_126 : decode cX7_term 126 = .ok (.bipush 6, 2) := dk_16 6 (dk_at dksX7_term_5 2 rfl rfl)
theorem dX7_term_128 : decode cX7_term 128 = .ok (.invokevirtual 107, 3) := dk_182 0 107 (dk_at dksX7_term_5 4 rfl rfl)
theorem dX7_term_131 : decode cX7_term 131 = .ok (.istore_n 2, 1) := dk_61 (dk_at dksX7_term_5 7 rfl rfl)
theorem dX7_term_132 : decode cX7_term 132 = .ok (.new 83, 3) := dk_187 0 83 (dk_at dksX7_term_5 8 rfl rfl)
theorem dX7_term_135 : decode cX7_term 135 = .ok (.dup, 1) := dk_89 (dk_at dksX7_term_5 11 rfl rfl)
theorem dX7_term_136 : decode cX7_term 136 = .ok (.aload_n 0, 1) := dk_42 (dk_at dksX7_term_5 12 rfl rfl)
theorem dX7_term_137 : decode cX7_term 137 = .ok (.iload_n 2, 1) := dk_28 (dk_at dksX7_term_5 13 rfl rfl)
theorem dX7_term_138 : decode cX7_term 138 = .ok (.invokedynamic 110, 5) := by decide +kernel
theorem dX7_term_143 : decode cX7_term 143 = .ok (.invokespecial 89, 3) := dk_183 0 89 (dk_at dksX7_term_5 19 rfl rfl)
theorem dX7_term_146 : decode cX7_term 146 = .ok (.areturn, 1) := dk_176 (dk_at dksX7_term_5 22 rfl rfl)
theorem dX7_term_147 : decode cX7_term 147 = .ok (.aload_n 0, 1) := dk_42 (dk_at dksX7_term_5 23 rfl rfl)
theorem dX7_term_148 : decode cX7_term 148 = .ok (.iconst 1, 1) := dk_4 (dk_at dksX7_term_6 0 rfl rfl)
theorem dX7_term_149 : decode cX7_term 149 = .ok (.iconst 4, 1) := dk_7 (dk_at dksX7_term_6 1 rfl rfl)
theorem dX7_term_150 : decode cX7_term 150 = .ok (.invokevirtual 107, 3) := dk_182 0 107 (dk_at dksX7_term_6 2 rfl rfl)
theorem dX7_term_153 : decode cX7_term 153 = .ok (.istore_n 3, 1) := dk_62 (dk_at dksX7_term_6 5 rfl rfl)
theorem dX7_term_154 : decode cX7_term 154 = .ok (.new 83, 3) := dk_187 0 83 (dk_at dksX7_term_6 6 rfl rfl)
theorem dX7_term_157 : decode cX7_term 157 = .ok (.dup, 1) := dk_89 (dk_at dksX7_term_6 9 rfl rfl)
theorem dX7_term_158 : decode cX7_term 158 = .ok (.aload_n 0, 1) := dk_42 (dk_at dksX7_term_6 10 rfl rfl)
theorem dX7_term_159 : decode cX7_term 159 = .ok (.iload_n 3, 1) := dk_29 (dk_at dksX7_term_6 11 rfl rfl)
theorem dX7_term_160 : decode cX7_term 160 = .ok (.invokedynamic 111, 5) := by decide +kernel
theorem dX7_term_165 : decode cX7_term 165 = .ok (.invokespecial 89, 3) := dk_183 0 89 (dk_at dksX7_term_6 17 rfl rfl)
theorem dX7_term_168 : decode cX7_term 168 = .ok (.areturn, 1) := dk_176 (dk_at dksX7_term_6 20 rfl rfl)
theorem dX7_term_169 : decode cX7_term 169 = .ok (.aload_n 0, 1) := dk_42 (dk_at dksX7_term_6 21 rfl rfl)
theorem dX7_term_170 : decode cX7_term 170 = .ok (.iconst 1, 1) := dk_4 (dk_at dksX7_term_6 22 rfl rfl)
theorem dX7_term_171 : decode cX7_term 171 = .ok (.iconst 4, 1) := dk_7 (dk_at dksX7_term_6 23 rfl rfl)
theorem dX7_term_172 : decode cX7_term 172 = .ok (.invokevirtual 107, 3) := dk_182 0 107 (dk_at dksX7_term_7 0 rfl rfl)
theorem dX7_term_175 : decode cX7_term 175 = .ok (.istore 4, 2) := dk_54 4 (dk_at dksX7_term_7 3 rfl rfl)
theorem dX7_term_177 : decode cX7_term 177 = .ok (.new 83, 3) := dk_187 0 83 (dk_at dksX7_term_7 5 rfl rfl)
theorem dX7_term_180 : decode cX7_term 180 = .ok (.dup, 1) := dk_89 (dk_at dksX7_term_7 8 rfl rfl)
theorem dX7_term_181 : decode cX7_term 181 = .ok (.aload_n 0, 1) := dk_42 (dk_at dksX7_term_7 9 rfl rfl)
theorem dX7_term_182 : decode cX7_term 182 = .ok (.iload 4, 2) := dk_21 4 (dk_at dksX7_term_7 10 rfl rfl)
theorem dX7_term_184 : decode cX7_term 184 = .ok (.invokedynamic 112, 5) := by decide +kernel
theorem dX7_term_189 : decode cX7_term 189 = .ok (.invokespecial 89, 3) := dk_183 0 89 (dk_at dksX7_term_7 17 rfl rfl)
theorem dX7_term_192 : decode cX7_term 192 = .ok (.areturn, 1) := dk_176 (dk_at dksX7_term_7 20 rfl rfl)
theorem dX7_term_193 : decode cX7_term 193 = .ok (.aload_n 0, 1) := dk_42 (dk_at dksX7_term_7 21 rfl rfl)
theorem dX7_term_194 : decode cX7_term 194 = .ok (.iconst 2, 1) := dk_5 (dk_at dksX7_term_7 22 rfl rfl)
theorem dX7_term_195 : decode cX7_term 195 = .ok (.bipush 11, 2) := dk_16 11 (dk_at dksX7_term_8 0 rfl rfl)
theorem dX7_term_197 : decode cX7_term 197 = .ok (.invokevirtual 80, 3) := dk_182 0 80 (dk_at dksX7_term_8 2 rfl rfl)
theorem dX7_term_200 : decode cX7_term 200 = .ok (.istore 5, 2) := dk_54 5 (dk_at dksX7_term_8 5 rfl rfl)
theorem dX7_term_202 : decode cX7_term 202 = .ok (.new 83, 3) := dk_187 0 83 (dk_at dksX7_term_8 7 rfl rfl)
theorem dX7_term_205 : decode cX7_term 205 = .ok (.dup, 1) := dk_89 (dk_at dksX7_term_8 10 rfl rfl)
theorem dX7_term_206 : decode cX7_term 206 = .ok (.aload_n 0, 1) := dk_42 (dk_at dksX7_term_8 11 rfl rfl)
theorem dX7_term_207 : decode cX7_term 207 = .ok (.iload 5, 2) := dk_21 5 (dk_at dksX7_term_8 12 rfl rfl)
theorem dX7_term_209 : decode cX7_term 209 = .ok (.invokedynamic 113, 5) := by decide +kernel
theorem dX7_term_214 : decode cX7_term 214 = .ok (.invokespecial 89, 3) := dk_183 0 89 (dk_at dksX7_term_8 19 rfl rfl)
theorem dX7_term_217 : decode cX7_term 217 = .ok (.areturn, 1) := dk_176 (dk_at dksX7_term_8 22 rfl rfl)
theorem dX7_term_218 : decode cX7_term 218 = .ok (.aload_n 0, 1) := dk_42 (dk_at dksX7_term_8 23 rfl rfl)
theorem dX7_term_219 : decode cX7_term 219 = .ok (.iload_n 1, 1) := dk_27 (dk_at dksX7_term_9 0 rfl rfl)
theorem dX7_term_220 : decode cX7_term 220 = .ok (.invokevirtual 114, 3) := dk_182 0 114 (dk_at dksX7_term_9 1 rfl rfl)
theorem dX7_term_223 : decode cX7_term 223 = .ok (.areturn, 1) := dk_176 (dk_at dksX7_term_9 4 rfl rfl)
abbrev cX7_isDigit : ByteArray := prog_11_method_8_code
def yX7_isDigit : MethodName := ⟨RX7, "isDigit", "(C)Z"⟩
def dkwX7_isDigit_0 : List UInt8 := [26, 16, 48, 16, 57, 184, 0, 67, 172]
abbrev dktX7_isDigit_0 : List UInt8 := dkwX7_isDigit_0 ++ []
theorem dksX7_isDigit_0 : cX7_isDigit.data.toList.drop 0 = dktX7_isDigit_0 := by decide +kernel
theorem dX7_isDigit_0 : decode cX7_isDigit 0 = .ok (.iload_n 0, 1) := dk_26 (dk_at dksX7_isDigit_0 0 rfl rfl)
theorem dX7_isDigit_1 : decode cX7_isDigit 1 = .ok (.bipush 48, 2) := dk_16 48 (dk_at dksX7_isDigit_0 1 rfl rfl)
theorem dX7_isDigit_3 : decode cX7_isDigit 3 = .ok (.bipush 57, 2) := dk_16 57 (dk_at dksX7_isDigit_0 3 rfl rfl)
theorem dX7_isDigit_5 : decode cX7_isDigit 5 = .ok (.invokestatic 67, 3) := dk_184 0 67 (dk_at dksX7_isDigit_0 5 rfl rfl)
theorem dX7_isDigit_8 : decode cX7_isDigit 8 = .ok (.ireturn, 1) := dk_172 (dk_at dksX7_isDigit_0 8 rfl rfl)
abbrev cX7_number : ByteArray := prog_11_method_11_code
def yX7_number : MethodName := ⟨RX7, "number", "()LGameCalculator$Expression;"⟩
def dkwX7_number_3 : List UInt8 := [29, 183, 0, 35, 191, 187, 0, 83, 89, 42, 27, 21, 4, 186, 0, 98, 0, 0, 183, 0, 89, 176]
abbrev dktX7_number_3 : List UInt8 := dkwX7_number_3 ++ []
def dkwX7_number_2 : List UInt8 := [182, 0, 80, 54, 4, 21, 4, 5, 161, 0, 12, 21, 4, 184, 0, 92, 4, 159, 0, 12, 187, 0, 33, 89]
abbrev dktX7_number_2 : List UInt8 := dkwX7_number_2 ++ dktX7_number_3
def dkwX7_number_1 : List UInt8 := [186, 0, 85, 0, 0, 183, 0, 89, 176, 42, 182, 0, 38, 61, 42, 180, 0, 15, 62, 42, 6, 17, 2, 0]
abbrev dktX7_number_1 : List UInt8 := dkwX7_number_1 ++ dktX7_number_2
def dkwX7_number_0 : List UInt8 := [42, 6, 17, 3, 231, 182, 0, 80, 60, 42, 16, 47, 182, 0, 42, 154, 0, 18, 187, 0, 83, 89, 42, 27]
abbrev dktX7_number_0 : List UInt8 := dkwX7_number_0 ++ dktX7_number_1
theorem dksX7_number_0 : cX7_number.data.toList.drop 0 = dktX7_number_0 := by decide +kernel
theorem dksX7_number_1 : cX7_number.data.toList.drop 24 = dktX7_number_1 := dk_seg dksX7_number_0 24 rfl rfl
theorem dksX7_number_2 : cX7_number.data.toList.drop 48 = dktX7_number_2 := dk_seg dksX7_number_1 24 rfl rfl
theorem dksX7_number_3 : cX7_number.data.toList.drop 72 = dktX7_number_3 := dk_seg dksX7_number_2 24 rfl rfl
theorem dX7_number_0 : decode cX7_number 0 = .ok (.aload_n 0, 1) := dk_42 (dk_at dksX7_number_0 0 rfl rfl)
theorem dX7_number_1 : decode cX7_number 1 = .ok (.iconst 3, 1) := dk_6 (dk_at dksX7_number_0 1 rfl rfl)
theorem dX7_number_2 : decode cX7_number 2 = .ok (.sipush 999, 3) := dk_17 3 231 (dk_at dksX7_number_0 2 rfl rfl)
theorem dX7_number_5 : decode cX7_number 5 = .ok (.invokevirtual 80, 3) := dk_182 0 80 (dk_at dksX7_number_0 5 rfl rfl)
theorem dX7_number_8 : decode cX7_number 8 = .ok (.istore_n 1, 1) := dk_60 (dk_at dksX7_number_0 8 rfl rfl)
theorem dX7_number_9 : decode cX7_number 9 = .ok (.aload_n 0, 1) := dk_42 (dk_at dksX7_number_0 9 rfl rfl)
theorem dX7_number_10 : decode cX7_number 10 = .ok (.bipush 47, 2) := dk_16 47 (dk_at dksX7_number_0 10 rfl rfl)
theorem dX7_number_12 : decode cX7_number 12 = .ok (.invokevirtual 42, 3) := dk_182 0 42 (dk_at dksX7_number_0 12 rfl rfl)
theorem dX7_number_15 : decode cX7_number 15 = .ok (.ifCond .ne 18, 3) := dk_154 0 18 (dk_at dksX7_number_0 15 rfl rfl)
theorem dX7_number_18 : decode cX7_number 18 = .ok (.new 83, 3) := dk_187 0 83 (dk_at dksX7_number_0 18 rfl rfl)
theorem dX7_number_21 : decode cX7_number 21 = .ok (.dup, 1) := dk_89 (dk_at dksX7_number_0 21 rfl rfl)
theorem dX7_number_22 : decode cX7_number 22 = .ok (.aload_n 0, 1) := dk_42 (dk_at dksX7_number_0 22 rfl rfl)
theorem dX7_number_23 : decode cX7_number 23 = .ok (.iload_n 1, 1) := dk_27 (dk_at dksX7_number_0 23 rfl rfl)
theorem dX7_number_24 : decode cX7_number 24 = .ok (.invokedynamic 85, 5) := by decide +kernel
theorem dX7_number_29 : decode cX7_number 29 = .ok (.invokespecial 89, 3) := dk_183 0 89 (dk_at dksX7_number_1 5 rfl rfl)
theorem dX7_number_32 : decode cX7_number 32 = .ok (.areturn, 1) := dk_176 (dk_at dksX7_number_1 8 rfl rfl)
theorem dX7_number_33 : decode cX7_number 33 = .ok (.aload_n 0, 1) := dk_42 (dk_at dksX7_number_1 9 rfl rfl)
theorem dX7_number_34 : decode cX7_number 34 = .ok (.invokevirtual 38, 3) := dk_182 0 38 (dk_at dksX7_number_1 10 rfl rfl)
theorem dX7_number_37 : decode cX7_number 37 = .ok (.istore_n 2, 1) := dk_61 (dk_at dksX7_number_1 13 rfl rfl)
theorem dX7_number_38 : decode cX7_number 38 = .ok (.aload_n 0, 1) := dk_42 (dk_at dksX7_number_1 14 rfl rfl)
theorem dX7_number_39 : decode cX7_number 39 = .ok (.getfield 15, 3) := dk_180 0 15 (dk_at dksX7_number_1 15 rfl rfl)
theorem dX7_number_42 : decode cX7_number 42 = .ok (.istore_n 3, 1) := dk_62 (dk_at dksX7_number_1 18 rfl rfl)
theorem dX7_number_43 : decode cX7_number 43 = .ok (.aload_n 0, 1) := dk_42 (dk_at dksX7_number_1 19 rfl rfl)
theorem dX7_number_44 : decode cX7_number 44 = .ok (.iconst 3, 1) := dk_6 (dk_at dksX7_number_1 20 rfl rfl)
theorem dX7_number_45 : decode cX7_number 45 = .ok (.sipush 512, 3) := dk_17 2 0 (dk_at dksX7_number_1 21 rfl rfl)
theorem dX7_number_48 : decode cX7_number 48 = .ok (.invokevirtual 80, 3) := dk_182 0 80 (dk_at dksX7_number_2 0 rfl rfl)
theorem dX7_number_51 : decode cX7_number 51 = .ok (.istore 4, 2) := dk_54 4 (dk_at dksX7_number_2 3 rfl rfl)
theorem dX7_number_53 : decode cX7_number 53 = .ok (.iload 4, 2) := dk_21 4 (dk_at dksX7_number_2 5 rfl rfl)
theorem dX7_number_55 : decode cX7_number 55 = .ok (.iconst 2, 1) := dk_5 (dk_at dksX7_number_2 7 rfl rfl)
theorem dX7_number_56 : decode cX7_number 56 = .ok (.if_icmp .lt 12, 3) := dk_161 0 12 (dk_at dksX7_number_2 8 rfl rfl)
theorem dX7_number_59 : decode cX7_number 59 = .ok (.iload 4, 2) := dk_21 4 (dk_at dksX7_number_2 11 rfl rfl)
theorem dX7_number_61 : decode cX7_number 61 = .ok (.invokestatic 92, 3) := dk_184 0 92 (dk_at dksX7_number_2 13 rfl rfl)
theorem dX7_number_64 : decode cX7_number 64 = .ok (.iconst 1, 1) := dk_4 (dk_at dksX7_number_2 16 rfl rfl)
theorem dX7_number_65 : decode cX7_number 65 = .ok (.if_icmp .eq 12, 3) := dk_159 0 12 (dk_at dksX7_number_2 17 rfl rfl)
theorem dX7_number_68 : decode cX7_number 68 = .ok (.new 33, 3) := dk_187 0 33 (dk_at dksX7_number_2 20 rfl rfl)
theorem dX7_number_71 : decode cX7_number 71 = .ok (.dup, 1) := dk_89 (dk_at dksX7_number_2 23 rfl rfl)
theorem dX7_number_72 : decode cX7_number 72 = .ok (.iload_n 3, 1) := dk_29 (dk_at dksX7_number_3 0 rfl rfl)
theorem dX7_number_73 : decode cX7_number 73 = .ok (.invokespecial 35, 3) := dk_183 0 35 (dk_at dksX7_number_3 1 rfl rfl)
theorem dX7_number_76 : decode cX7_number 76 = .ok (.athrow, 1) := dk_191 (dk_at dksX7_number_3 4 rfl rfl)
theorem dX7_number_77 : decode cX7_number 77 = .ok (.new 83, 3) := dk_187 0 83 (dk_at dksX7_number_3 5 rfl rfl)
theorem dX7_number_80 : decode cX7_number 80 = .ok (.dup, 1) := dk_89 (dk_at dksX7_number_3 8 rfl rfl)
theorem dX7_number_81 : decode cX7_number 81 = .ok (.aload_n 0, 1) := dk_42 (dk_at dksX7_number_3 9 rfl rfl)
theorem dX7_number_82 : decode cX7_number 82 = .ok (.iload_n 1, 1) := dk_27 (dk_at dksX7_number_3 10 rfl rfl)
theorem dX7_number_83 : decode cX7_number 83 = .ok (.iload 4, 2) := dk_21 4 (dk_at dksX7_number_3 11 rfl rfl)
theorem dX7_number_85 : decode cX7_number 85 = .ok (.invokedynamic 98, 5) := by decide +kernel
theorem dX7_number_90 : decode cX7_number 90 = .ok (.invokespecial 89, 3) := dk_183 0 89 (dk_at dksX7_number_3 18 rfl rfl)
theorem dX7_number_93 : decode cX7_number 93 = .ok (.areturn, 1) := dk_176 (dk_at dksX7_number_3 21 rfl rfl)
abbrev cX7_digits : ByteArray := prog_11_method_9_code
def yX7_digits : MethodName := ⟨RX7, "digits", "(II)I"⟩
def dkwX7_digits_7 : List UInt8 := [181, 0, 15, 42, 21, 6, 182, 0, 46, 21, 4, 172]
abbrev dktX7_digits_7 : List UInt8 := dkwX7_digits_7 ++ []
def dkwX7_digits_6 : List UInt8 := [163, 0, 7, 4, 167, 0, 4, 3, 54, 6, 42, 21, 6, 153, 0, 10, 42, 180, 0, 15, 167, 0, 4, 29]
abbrev dktX7_digits_6 : List UInt8 := dkwX7_digits_6 ++ dktX7_digits_7
def dkwX7_digits_5 : List UInt8 := [159, 0, 19, 42, 180, 0, 3, 180, 0, 19, 29, 182, 0, 29, 16, 48, 159, 0, 13, 21, 4, 28]
abbrev dktX7_digits_5 : List UInt8 := dkwX7_digits_5 ++ dktX7_digits_6
def dkwX7_digits_4 : List UInt8 := [42, 180, 0, 15, 29, 100, 54, 5, 21, 5, 158, 0, 41, 21, 5, 27, 163, 0, 35, 21, 5, 4]
abbrev dktX7_digits_4 : List UInt8 := dkwX7_digits_4 ++ dktX7_digits_5
def dkwX7_digits_3 : List UInt8 := [16, 48, 100, 17, 39, 16, 184, 0, 74, 54, 4, 42, 89, 180, 0, 15, 4, 96, 181, 0, 15, 167, 255, 178]
abbrev dktX7_digits_3 : List UInt8 := dkwX7_digits_3 ++ dktX7_digits_4
def dkwX7_digits_2 : List UInt8 := [153, 0, 47, 16, 10, 21, 4, 104, 42, 180, 0, 3, 180, 0, 19, 42, 180, 0, 15, 182, 0, 29, 96]
abbrev dktX7_digits_2 : List UInt8 := dkwX7_digits_2 ++ dktX7_digits_3
def dkwX7_digits_1 : List UInt8 := [182, 0, 23, 162, 0, 67, 42, 180, 0, 3, 180, 0, 19, 42, 180, 0, 15, 182, 0, 29, 184, 0, 71]
abbrev dktX7_digits_1 : List UInt8 := dkwX7_digits_1 ++ dktX7_digits_2
def dkwX7_digits_0 : List UInt8 := [42, 182, 0, 38, 87, 42, 180, 0, 15, 62, 3, 54, 4, 42, 180, 0, 15, 42, 180, 0, 3, 180, 0, 19]
abbrev dktX7_digits_0 : List UInt8 := dkwX7_digits_0 ++ dktX7_digits_1
theorem dksX7_digits_0 : cX7_digits.data.toList.drop 0 = dktX7_digits_0 := by decide +kernel
theorem dksX7_digits_1 : cX7_digits.data.toList.drop 24 = dktX7_digits_1 := dk_seg dksX7_digits_0 24 rfl rfl
theorem dksX7_digits_2 : cX7_digits.data.toList.drop 47 = dktX7_digits_2 := dk_seg dksX7_digits_1 23 rfl rfl
theorem dksX7_digits_3 : cX7_digits.data.toList.drop 70 = dktX7_digits_3 := dk_seg dksX7_digits_2 23 rfl rfl
theorem dksX7_digits_4 : cX7_digits.data.toList.drop 94 = dktX7_digits_4 := dk_seg dksX7_digits_3 24 rfl rfl
theorem dksX7_digits_5 : cX7_digits.data.toList.drop 116 = dktX7_digits_5 := dk_seg dksX7_digits_4 22 rfl rfl
theorem dksX7_digits_6 : cX7_digits.data.toList.drop 138 = dktX7_digits_6 := dk_seg dksX7_digits_5 22 rfl rfl
theorem dksX7_digits_7 : cX7_digits.data.toList.drop 162 = dktX7_digits_7 := dk_seg dksX7_digits_6 24 rfl rfl
theorem dX7_digits_0 : decode cX7_digits 0 = .ok (.aload_n 0, 1) := dk_42 (dk_at dksX7_digits_0 0 rfl rfl)
theorem dX7_digits_1 : decode cX7_digits 1 = .ok (.invokevirtual 38, 3) := dk_182 0 38 (dk_at dksX7_digits_0 1 rfl rfl)
theorem dX7_digits_4 : decode cX7_digits 4 = .ok (.pop, 1) := dk_87 (dk_at dksX7_digits_0 4 rfl rfl)
theorem dX7_digits_5 : decode cX7_digits 5 = .ok (.aload_n 0, 1) := dk_42 (dk_at dksX7_digits_0 5 rfl rfl)
theorem dX7_digits_6 : decode cX7_digits 6 = .ok (.getfield 15, 3) := dk_180 0 15 (dk_at dksX7_digits_0 6 rfl rfl)
theorem dX7_digits_9 : decode cX7_digits 9 = .ok (.istore_n 3, 1) := dk_62 (dk_at dksX7_digits_0 9 rfl rfl)
theorem dX7_digits_10 : decode cX7_digits 10 = .ok (.iconst 0, 1) := dk_3 (dk_at dksX7_digits_0 10 rfl rfl)
theorem dX7_digits_11 : decode cX7_digits 11 = .ok (.istore 4, 2) := dk_54 4 (dk_at dksX7_digits_0 11 rfl rfl)
theorem dX7_digits_13 : decode cX7_digits 13 = .ok (.aload_n 0, 1) := dk_42 (dk_at dksX7_digits_0 13 rfl rfl)
theorem dX7_digits_14 : decode cX7_digits 14 = .ok (.getfield 15, 3) := dk_180 0 15 (dk_at dksX7_digits_0 14 rfl rfl)
theorem dX7_digits_17 : decode cX7_digits 17 = .ok (.aload_n 0, 1) := dk_42 (dk_at dksX7_digits_0 17 rfl rfl)
theorem dX7_digits_18 : decode cX7_digits 18 = .ok (.getfield 3, 3) := dk_180 0 3 (dk_at dksX7_digits_0 18 rfl rfl)
theorem dX7_digits_21 : decode cX7_digits 21 = .ok (.getfield 19, 3) := dk_180 0 19 (dk_at dksX7_digits_0 21 rfl rfl)
theorem dX7_digits_24 : decode cX7_digits 24 = .ok (.invokevirtual 23, 3) := dk_182 0 23 (dk_at dksX7_digits_1 0 rfl rfl)
theorem dX7_digits_27 : decode cX7_digits 27 = .ok (.if_icmp .ge 67, 3) := dk_162 0 67 (dk_at dksX7_digits_1 3 rfl rfl)
theorem dX7_digits_30 : decode cX7_digits 30 = .ok (.aload_n 0, 1) := dk_42 (dk_at dksX7_digits_1 6 rfl rfl)
theorem dX7_digits_31 : decode cX7_digits 31 = .ok (.getfield 3, 3) := dk_180 0 3 (dk_at dksX7_digits_1 7 rfl rfl)
theorem dX7_digits_34 : decode cX7_digits 34 = .ok (.getfield 19, 3) := dk_180 0 19 (dk_at dksX7_digits_1 10 rfl rfl)
theorem dX7_digits_37 : decode cX7_digits 37 = .ok (.aload_n 0, 1) := dk_42 (dk_at dksX7_digits_1 13 rfl rfl)
theorem dX7_digits_38 : decode cX7_digits 38 = .ok (.getfield 15, 3) := dk_180 0 15 (dk_at dksX7_digits_1 14 rfl rfl)
theorem dX7_digits_41 : decode cX7_digits 41 = .ok (.invokevirtual 29, 3) := dk_182 0 29 (dk_at dksX7_digits_1 17 rfl rfl)
theorem dX7_digits_44 : decode cX7_digits 44 = .ok (.invokestatic 71, 3) := dk_184 0 71 (dk_at dksX7_digits_1 20 rfl rfl)
theorem dX7_digits_47 : decode cX7_digits 47 = .ok (.ifCond .eq 47, 3) := dk_153 0 47 (dk_at dksX7_digits_2 0 rfl rfl)
theorem dX7_digits_50 : decode cX7_digits 50 = .ok (.bipush 10, 2) := dk_16 10 (dk_at dksX7_digits_2 3 rfl rfl)
theorem dX7_digits_52 : decode cX7_digits 52 = .ok (.iload 4, 2) := dk_21 4 (dk_at dksX7_digits_2 5 rfl rfl)
theorem dX7_digits_54 : decode cX7_digits 54 = .ok (.imul, 1) := dk_104 (dk_at dksX7_digits_2 7 rfl rfl)
theorem dX7_digits_55 : decode cX7_digits 55 = .ok (.aload_n 0, 1) := dk_42 (dk_at dksX7_digits_2 8 rfl rfl)
theorem dX7_digits_56 : decode cX7_digits 56 = .ok (.getfield 3, 3) := dk_180 0 3 (dk_at dksX7_digits_2 9 rfl rfl)
theorem dX7_digits_59 : decode cX7_digits 59 = .ok (.getfield 19, 3) := dk_180 0 19 (dk_at dksX7_digits_2 12 rfl rfl)
theorem dX7_digits_62 : decode cX7_digits 62 = .ok (.aload_n 0, 1) := dk_42 (dk_at dksX7_digits_2 15 rfl rfl)
theorem dX7_digits_63 : decode cX7_digits 63 = .ok (.getfield 15, 3) := dk_180 0 15 (dk_at dksX7_digits_2 16 rfl rfl)
theorem dX7_digits_66 : decode cX7_digits 66 = .ok (.invokevirtual 29, 3) := dk_182 0 29 (dk_at dksX7_digits_2 19 rfl rfl)
theorem dX7_digits_69 : decode cX7_digits 69 = .ok (.iadd, 1) := dk_96 (dk_at dksX7_digits_2 22 rfl rfl)
theorem dX7_digits_70 : decode cX7_digits 70 = .ok (.bipush 48, 2) := dk_16 48 (dk_at dksX7_digits_3 0 rfl rfl)
theorem dX7_digits_72 : decode cX7_digits 72 = .ok (.isub, 1) := dk_100 (dk_at dksX7_digits_3 2 rfl rfl)
theorem dX7_digits_73 : decode cX7_digits 73 = .ok (.sipush 10000, 3) := dk_17 39 16 (dk_at dksX7_digits_3 3 rfl rfl)
theorem dX7_digits_76 : decode cX7_digits 76 = .ok (.invokestatic 74, 3) := dk_184 0 74 (dk_at dksX7_digits_3 6 rfl rfl)
theorem dX7_digits_79 : decode cX7_digits 79 = .ok (.istore 4, 2) := dk_54 4 (dk_at dksX7_digits_3 9 rfl rfl)
theorem dX7_digits_81 : decode cX7_digits 81 = .ok (.aload_n 0, 1) := dk_42 (dk_at dksX7_digits_3 11 rfl rfl)
theorem dX7_digits_82 : decode cX7_digits 82 = .ok (.dup, 1) := dk_89 (dk_at dksX7_digits_3 12 rfl rfl)
theorem dX7_digits_83 : decode cX7_digits 83 = .ok (.getfield 15, 3) := dk_180 0 15 (dk_at dksX7_digits_3 13 rfl rfl)
theorem dX7_digits_86 : decode cX7_digits 86 = .ok (.iconst 1, 1) := dk_4 (dk_at dksX7_digits_3 16 rfl rfl)
theorem dX7_digits_87 : decode cX7_digits 87 = .ok (.iadd, 1) := dk_96 (dk_at dksX7_digits_3 17 rfl rfl)
theorem dX7_digits_88 : decode cX7_digits 88 = .ok (.putfield 15, 3) := dk_181 0 15 (dk_at dksX7_digits_3 18 rfl rfl)
theorem dX7_digits_91 : decode cX7_digits 91 = .ok (.goto (-78), 3) := dk_167 255 178 (dk_at dksX7_digits_3 21 rfl rfl)
theorem dX7_digits_94 : decode cX7_digits 94 = .ok (.aload_n 0, 1) := dk_42 (dk_at dksX7_digits_4 0 rfl rfl)
theorem dX7_digits_95 : decode cX7_digits 95 = .ok (.getfield 15, 3) := dk_180 0 15 (dk_at dksX7_digits_4 1 rfl rfl)
theorem dX7_digits_98 : decode cX7_digits 98 = .ok (.iload_n 3, 1) := dk_29 (dk_at dksX7_digits_4 4 rfl rfl)
theorem dX7_digits_99 : decode cX7_digits 99 = .ok (.isub, 1) := dk_100 (dk_at dksX7_digits_4 5 rfl rfl)
theorem dX7_digits_100 : decode cX7_digits 100 = .ok (.istore 5, 2) := dk_54 5 (dk_at dksX7_digits_4 6 rfl rfl)
theorem dX7_digits_102 : decode cX7_digits 102 = .ok (.iload 5, 2) := dk_21 5 (dk_at dksX7_digits_4 8 rfl rfl)
theorem dX7_digits_104 : decode cX7_digits 104 = .ok (.ifCond .le 41, 3) := dk_158 0 41 (dk_at dksX7_digits_4 10 rfl rfl)
theorem dX7_digits_107 : decode cX7_digits 107 = .ok (.iload 5, 2) := dk_21 5 (dk_at dksX7_digits_4 13 rfl rfl)
theorem dX7_digits_109 : decode cX7_digits 109 = .ok (.iload_n 1, 1) := dk_27 (dk_at dksX7_digits_4 15 rfl rfl)
theorem dX7_digits_110 : decode cX7_digits 110 = .ok (.if_icmp .gt 35, 3) := dk_163 0 35 (dk_at dksX7_digits_4 16 rfl rfl)
theorem dX7_digits_113 : decode cX7_digits 113 = .ok (.iload 5, 2) := dk_21 5 (dk_at dksX7_digits_4 19 rfl rfl)
theorem dX7_digits_115 : decode cX7_digits 115 = .ok (.iconst 1, 1) := dk_4 (dk_at dksX7_digits_4 21 rfl rfl)
theorem dX7_digits_116 : decode cX7_digits 116 = .ok (.if_icmp .eq 19, 3) := dk_159 0 19 (dk_at dksX7_digits_5 0 rfl rfl)
theorem dX7_digits_119 : decode cX7_digits 119 = .ok (.aload_n 0, 1) := dk_42 (dk_at dksX7_digits_5 3 rfl rfl)
theorem dX7_digits_120 : decode cX7_digits 120 = .ok (.getfield 3, 3) := dk_180 0 3 (dk_at dksX7_digits_5 4 rfl rfl)
theorem dX7_digits_123 : decode cX7_digits 123 = .ok (.getfield 19, 3) := dk_180 0 19 (dk_at dksX7_digits_5 7 rfl rfl)
theorem dX7_digits_126 : decode cX7_digits 126 = .ok (.iload_n 3, 1) := dk_29 (dk_at dksX7_digits_5 10 rfl rfl)
theorem dX7_digits_127 : decode cX7_digits 127 = .ok (.invokevirtual 29, 3) := dk_182 0 29 (dk_at dksX7_digits_5 11 rfl rfl)
theorem dX7_digits_130 : decode cX7_digits 130 = .ok (.bipush 48, 2) := dk_16 48 (dk_at dksX7_digits_5 14 rfl rfl)
theorem dX7_digits_132 : decode cX7_digits 132 = .ok (.if_icmp .eq 13, 3) := dk_159 0 13 (dk_at dksX7_digits_5 16 rfl rfl)
theorem dX7_digits_135 : decode cX7_digits 135 = .ok (.iload 4, 2) := dk_21 4 (dk_at dksX7_digits_5 19 rfl rfl)
theorem dX7_digits_137 : decode cX7_digits 137 = .ok (.iload_n 2, 1) := dk_28 (dk_at dksX7_digits_5 21 rfl rfl)
theorem dX7_digits_138 : decode cX7_digits 138 = .ok (.if_icmp .gt 7, 3) := dk_163 0 7 (dk_at dksX7_digits_6 0 rfl rfl)
theorem dX7_digits_141 : decode cX7_digits 141 = .ok (.iconst 1, 1) := dk_4 (dk_at dksX7_digits_6 3 rfl rfl)
theorem dX7_digits_142 : decode cX7_digits 142 = .ok (.goto 4, 3) := dk_167 0 4 (dk_at dksX7_digits_6 4 rfl rfl)
theorem dX7_digits_145 : decode cX7_digits 145 = .ok (.iconst 0, 1) := dk_3 (dk_at dksX7_digits_6 7 rfl rfl)
theorem dX7_digits_146 : decode cX7_digits 146 = .ok (.istore 6, 2) := dk_54 6 (dk_at dksX7_digits_6 8 rfl rfl)
theorem dX7_digits_148 : decode cX7_digits 148 = .ok (.aload_n 0, 1) := dk_42 (dk_at dksX7_digits_6 10 rfl rfl)
theorem dX7_digits_149 : decode cX7_digits 149 = .ok (.iload 6, 2) := dk_21 6 (dk_at dksX7_digits_6 11 rfl rfl)
theorem dX7_digits_151 : decode cX7_digits 151 = .ok (.ifCond .eq 10, 3) := dk_153 0 10 (dk_at dksX7_digits_6 13 rfl rfl)
theorem dX7_digits_154 : decode cX7_digits 154 = .ok (.aload_n 0, 1) := dk_42 (dk_at dksX7_digits_6 16 rfl rfl)
theorem dX7_digits_155 : decode cX7_digits 155 = .ok (.getfield 15, 3) := dk_180 0 15 (dk_at dksX7_digits_6 17 rfl rfl)
theorem dX7_digits_158 : decode cX7_digits 158 = .ok (.goto 4, 3) := dk_167 0 4 (dk_at dksX7_digits_6 20 rfl rfl)
theorem dX7_digits_161 : decode cX7_digits 161 = .ok (.iload_n 3, 1) := dk_29 (dk_at dksX7_digits_6 23 rfl rfl)
theorem dX7_digits_162 : decode cX7_digits 162 = .ok (.putfield 15, 3) := dk_181 0 15 (dk_at dksX7_digits_7 0 rfl rfl)
theorem dX7_digits_165 : decode cX7_digits 165 = .ok (.aload_n 0, 1) := dk_42 (dk_at dksX7_digits_7 3 rfl rfl)
theorem dX7_digits_166 : decode cX7_digits 166 = .ok (.iload 6, 2) := dk_21 6 (dk_at dksX7_digits_7 4 rfl rfl)
theorem dX7_digits_168 : decode cX7_digits 168 = .ok (.invokevirtual 46, 3) := dk_182 0 46 (dk_at dksX7_digits_7 6 rfl rfl)
theorem dX7_digits_171 : decode cX7_digits 171 = .ok (.iload 4, 2) := dk_21 4 (dk_at dksX7_digits_7 9 rfl rfl)
theorem dX7_digits_173 : decode cX7_digits 173 = .ok (.ireturn, 1) := dk_172 (dk_at dksX7_digits_7 11 rfl rfl)
abbrev cX7_require : ByteArray := prog_11_method_3_code
def yX7_require : MethodName := ⟨RX7, "require", "(Z)V"⟩
def dkwX7_require_0 : List UInt8 := [27, 154, 0, 15, 187, 0, 33, 89, 42, 180, 0, 15, 183, 0, 35, 191, 177]
abbrev dktX7_require_0 : List UInt8 := dkwX7_require_0 ++ []
theorem dksX7_require_0 : cX7_require.data.toList.drop 0 = dktX7_require_0 := by decide +kernel
theorem dX7_require_0 : decode cX7_require 0 = .ok (.iload_n 1, 1) := dk_27 (dk_at dksX7_require_0 0 rfl rfl)
theorem dX7_require_1 : decode cX7_require 1 = .ok (.ifCond .ne 15, 3) := dk_154 0 15 (dk_at dksX7_require_0 1 rfl rfl)
theorem dX7_require_4 : decode cX7_require 4 = .ok (.new 33, 3) := dk_187 0 33 (dk_at dksX7_require_0 4 rfl rfl)
theorem dX7_require_7 : decode cX7_require 7 = .ok (.dup, 1) := dk_89 (dk_at dksX7_require_0 7 rfl rfl)
theorem dX7_require_8 : decode cX7_require 8 = .ok (.aload_n 0, 1) := dk_42 (dk_at dksX7_require_0 8 rfl rfl)
theorem dX7_require_9 : decode cX7_require 9 = .ok (.getfield 15, 3) := dk_180 0 15 (dk_at dksX7_require_0 9 rfl rfl)
theorem dX7_require_12 : decode cX7_require 12 = .ok (.invokespecial 35, 3) := dk_183 0 35 (dk_at dksX7_require_0 12 rfl rfl)
theorem dX7_require_15 : decode cX7_require 15 = .ok (.athrow, 1) := dk_191 (dk_at dksX7_require_0 15 rfl rfl)
theorem dX7_require_16 : decode cX7_require 16 = .ok (.return_, 1) := dk_177 (dk_at dksX7_require_0 16 rfl rfl)
abbrev cX7_lambda_number_0 : ByteArray := prog_11_method_20_code
def yX7_lambda_number_0 : MethodName := ⟨RX7, "lambda$number$0", "(I)LGameCalculator$Form;"⟩
def dkwX7_lambda_number_0_0 : List UInt8 := [42, 180, 0, 3, 27, 133, 20, 0, 155, 105, 182, 0, 157, 176]
abbrev dktX7_lambda_number_0_0 : List UInt8 := dkwX7_lambda_number_0_0 ++ []
theorem dksX7_lambda_number_0_0 : cX7_lambda_number_0.data.toList.drop 0 = dktX7_lambda_number_0_0 := by decide +kernel
theorem dX7_lambda_number_0_0 : decode cX7_lambda_number_0 0 = .ok (.aload_n 0, 1) := dk_42 (dk_at dksX7_lambda_number_0_0 0 rfl rfl)
theorem dX7_lambda_number_0_1 : decode cX7_lambda_number_0 1 = .ok (.getfield 3, 3) := dk_180 0 3 (dk_at dksX7_lambda_number_0_0 1 rfl rfl)
theorem dX7_lambda_number_0_4 : decode cX7_lambda_number_0 4 = .ok (.iload_n 1, 1) := dk_27 (dk_at dksX7_lambda_number_0_0 4 rfl rfl)
theorem dX7_lambda_number_0_5 : decode cX7_lambda_number_0 5 = .ok (.i2l, 1) := dk_133 (dk_at dksX7_lambda_number_0_0 5 rfl rfl)
theorem dX7_lambda_number_0_6 : decode cX7_lambda_number_0 6 = .ok (.ldc2_w 155, 3) := dk_20 0 155 (dk_at dksX7_lambda_number_0_0 6 rfl rfl)
theorem dX7_lambda_number_0_9 : decode cX7_lambda_number_0 9 = .ok (.lmul, 1) := dk_105 (dk_at dksX7_lambda_number_0_0 9 rfl rfl)
theorem dX7_lambda_number_0_10 : decode cX7_lambda_number_0 10 = .ok (.invokevirtual 157, 3) := dk_182 0 157 (dk_at dksX7_lambda_number_0_0 10 rfl rfl)
theorem dX7_lambda_number_0_13 : decode cX7_lambda_number_0 13 = .ok (.areturn, 1) := dk_176 (dk_at dksX7_lambda_number_0_0 13 rfl rfl)
abbrev cX7_lambda_number_1 : ByteArray := prog_11_method_19_code
def yX7_lambda_number_1 : MethodName := ⟨RX7, "lambda$number$1", "(II)LGameCalculator$Form;"⟩
def dkwX7_lambda_number_1_0 : List UInt8 := [42, 180, 0, 3, 27, 133, 20, 0, 155, 28, 133, 109, 105, 182, 0, 157, 176]
abbrev dktX7_lambda_number_1_0 : List UInt8 := dkwX7_lambda_number_1_0 ++ []
theorem dksX7_lambda_number_1_0 : cX7_lambda_number_1.data.toList.drop 0 = dktX7_lambda_number_1_0 := by decide +kernel
theorem dX7_lambda_number_1_0 : decode cX7_lambda_number_1 0 = .ok (.aload_n 0, 1) := dk_42 (dk_at dksX7_lambda_number_1_0 0 rfl rfl)
theorem dX7_lambda_number_1_1 : decode cX7_lambda_number_1 1 = .ok (.getfield 3, 3) := dk_180 0 3 (dk_at dksX7_lambda_number_1_0 1 rfl rfl)
theorem dX7_lambda_number_1_4 : decode cX7_lambda_number_1 4 = .ok (.iload_n 1, 1) := dk_27 (dk_at dksX7_lambda_number_1_0 4 rfl rfl)
theorem dX7_lambda_number_1_5 : decode cX7_lambda_number_1 5 = .ok (.i2l, 1) := dk_133 (dk_at dksX7_lambda_number_1_0 5 rfl rfl)
theorem dX7_lambda_number_1_6 : decode cX7_lambda_number_1 6 = .ok (.ldc2_w 155, 3) := dk_20 0 155 (dk_at dksX7_lambda_number_1_0 6 rfl rfl)
theorem dX7_lambda_number_1_9 : decode cX7_lambda_number_1 9 = .ok (.iload_n 2, 1) := dk_28 (dk_at dksX7_lambda_number_1_0 9 rfl rfl)
theorem dX7_lambda_number_1_10 : decode cX7_lambda_number_1 10 = .ok (.i2l, 1) := dk_133 (dk_at dksX7_lambda_number_1_0 10 rfl rfl)
theorem dX7_lambda_number_1_11 : decode cX7_lambda_number_1 11 = .ok (.ldiv, 1) := dk_109 (dk_at dksX7_lambda_number_1_0 11 rfl rfl)
theorem dX7_lambda_number_1_12 : decode cX7_lambda_number_1 12 = .ok (.lmul, 1) := dk_105 (dk_at dksX7_lambda_number_1_0 12 rfl rfl)
theorem dX7_lambda_number_1_13 : decode cX7_lambda_number_1 13 = .ok (.invokevirtual 157, 3) := dk_182 0 157 (dk_at dksX7_lambda_number_1_0 13 rfl rfl)
theorem dX7_lambda_number_1_16 : decode cX7_lambda_number_1 16 = .ok (.areturn, 1) := dk_176 (dk_at dksX7_lambda_number_1_0 16 rfl rfl)
abbrev cX7_digit : ByteArray := prog_11_method_10_code
def yX7_digit : MethodName := ⟨RX7, "digit", "(II)I"⟩
def dkwX7_digit_1 : List UInt8 := [182, 0, 46, 42, 89, 180, 0, 15, 4, 96, 181, 0, 15, 29, 16, 48, 100, 172]
abbrev dktX7_digit_1 : List UInt8 := dkwX7_digit_1 ++ []
def dkwX7_digit_0 : List UInt8 := [42, 182, 0, 38, 62, 29, 184, 0, 71, 154, 0, 5, 4, 172, 42, 29, 16, 48, 100, 27, 28, 184, 0, 67]
abbrev dktX7_digit_0 : List UInt8 := dkwX7_digit_0 ++ dktX7_digit_1
theorem dksX7_digit_0 : cX7_digit.data.toList.drop 0 = dktX7_digit_0 := by decide +kernel
theorem dksX7_digit_1 : cX7_digit.data.toList.drop 24 = dktX7_digit_1 := dk_seg dksX7_digit_0 24 rfl rfl
theorem dX7_digit_0 : decode cX7_digit 0 = .ok (.aload_n 0, 1) := dk_42 (dk_at dksX7_digit_0 0 rfl rfl)
theorem dX7_digit_1 : decode cX7_digit 1 = .ok (.invokevirtual 38, 3) := dk_182 0 38 (dk_at dksX7_digit_0 1 rfl rfl)
theorem dX7_digit_4 : decode cX7_digit 4 = .ok (.istore_n 3, 1) := dk_62 (dk_at dksX7_digit_0 4 rfl rfl)
theorem dX7_digit_5 : decode cX7_digit 5 = .ok (.iload_n 3, 1) := dk_29 (dk_at dksX7_digit_0 5 rfl rfl)
theorem dX7_digit_6 : decode cX7_digit 6 = .ok (.invokestatic 71, 3) := dk_184 0 71 (dk_at dksX7_digit_0 6 rfl rfl)
theorem dX7_digit_9 : decode cX7_digit 9 = .ok (.ifCond .ne 5, 3) := dk_154 0 5 (dk_at dksX7_digit_0 9 rfl rfl)
theorem dX7_digit_12 : decode cX7_digit 12 = .ok (.iconst 1, 1) := dk_4 (dk_at dksX7_digit_0 12 rfl rfl)
theorem dX7_digit_13 : decode cX7_digit 13 = .ok (.ireturn, 1) := dk_172 (dk_at dksX7_digit_0 13 rfl rfl)
theorem dX7_digit_14 : decode cX7_digit 14 = .ok (.aload_n 0, 1) := dk_42 (dk_at dksX7_digit_0 14 rfl rfl)
theorem dX7_digit_15 : decode cX7_digit 15 = .ok (.iload_n 3, 1) := dk_29 (dk_at dksX7_digit_0 15 rfl rfl)
theorem dX7_digit_16 : decode cX7_digit 16 = .ok (.bipush 48, 2) := dk_16 48 (dk_at dksX7_digit_0 16 rfl rfl)
theorem dX7_digit_18 : decode cX7_digit 18 = .ok (.isub, 1) := dk_100 (dk_at dksX7_digit_0 18 rfl rfl)
theorem dX7_digit_19 : decode cX7_digit 19 = .ok (.iload_n 1, 1) := dk_27 (dk_at dksX7_digit_0 19 rfl rfl)
theorem dX7_digit_20 : decode cX7_digit 20 = .ok (.iload_n 2, 1) := dk_28 (dk_at dksX7_digit_0 20 rfl rfl)
theorem dX7_digit_21 : decode cX7_digit 21 = .ok (.invokestatic 67, 3) := dk_184 0 67 (dk_at dksX7_digit_0 21 rfl rfl)
theorem dX7_digit_24 : decode cX7_digit 24 = .ok (.invokevirtual 46, 3) := dk_182 0 46 (dk_at dksX7_digit_1 0 rfl rfl)
theorem dX7_digit_27 : decode cX7_digit 27 = .ok (.aload_n 0, 1) := dk_42 (dk_at dksX7_digit_1 3 rfl rfl)
theorem dX7_digit_28 : decode cX7_digit 28 = .ok (.dup, 1) := dk_89 (dk_at dksX7_digit_1 4 rfl rfl)
theorem dX7_digit_29 : decode cX7_digit 29 = .ok (.getfield 15, 3) := dk_180 0 15 (dk_at dksX7_digit_1 5 rfl rfl)
theorem dX7_digit_32 : decode cX7_digit 32 = .ok (.iconst 1, 1) := dk_4 (dk_at dksX7_digit_1 8 rfl rfl)
theorem dX7_digit_33 : decode cX7_digit 33 = .ok (.iadd, 1) := dk_96 (dk_at dksX7_digit_1 9 rfl rfl)
theorem dX7_digit_34 : decode cX7_digit 34 = .ok (.putfield 15, 3) := dk_181 0 15 (dk_at dksX7_digit_1 10 rfl rfl)
theorem dX7_digit_37 : decode cX7_digit 37 = .ok (.iload_n 3, 1) := dk_29 (dk_at dksX7_digit_1 13 rfl rfl)
theorem dX7_digit_38 : decode cX7_digit 38 = .ok (.bipush 48, 2) := dk_16 48 (dk_at dksX7_digit_1 14 rfl rfl)
theorem dX7_digit_40 : decode cX7_digit 40 = .ok (.isub, 1) := dk_100 (dk_at dksX7_digit_1 16 rfl rfl)
theorem dX7_digit_41 : decode cX7_digit 41 = .ok (.ireturn, 1) := dk_172 (dk_at dksX7_digit_1 17 rfl rfl)
abbrev cX7_lambda_term_2 : ByteArray := prog_11_method_18_code
def yX7_lambda_term_2 : MethodName := ⟨RX7, "lambda$term$2", "(I)LGameCalculator$Form;"⟩
def dkwX7_lambda_term_2_0 : List UInt8 := [42, 180, 0, 3, 27, 182, 0, 151, 176]
abbrev dktX7_lambda_term_2_0 : List UInt8 := dkwX7_lambda_term_2_0 ++ []
theorem dksX7_lambda_term_2_0 : cX7_lambda_term_2.data.toList.drop 0 = dktX7_lambda_term_2_0 := by decide +kernel
theorem dX7_lambda_term_2_0 : decode cX7_lambda_term_2 0 = .ok (.aload_n 0, 1) := dk_42 (dk_at dksX7_lambda_term_2_0 0 rfl rfl)
theorem dX7_lambda_term_2_1 : decode cX7_lambda_term_2 1 = .ok (.getfield 3, 3) := dk_180 0 3 (dk_at dksX7_lambda_term_2_0 1 rfl rfl)
theorem dX7_lambda_term_2_4 : decode cX7_lambda_term_2 4 = .ok (.iload_n 1, 1) := dk_27 (dk_at dksX7_lambda_term_2_0 4 rfl rfl)
theorem dX7_lambda_term_2_5 : decode cX7_lambda_term_2 5 = .ok (.invokevirtual 151, 3) := dk_182 0 151 (dk_at dksX7_lambda_term_2_0 5 rfl rfl)
theorem dX7_lambda_term_2_8 : decode cX7_lambda_term_2 8 = .ok (.areturn, 1) := dk_176 (dk_at dksX7_lambda_term_2_0 8 rfl rfl)
abbrev cX7_lambda_term_3 : ByteArray := prog_11_method_17_code
def yX7_lambda_term_3 : MethodName := ⟨RX7, "lambda$term$3", "(I)LGameCalculator$Form;"⟩
def dkwX7_lambda_term_3_0 : List UInt8 := [42, 180, 0, 3, 27, 3, 182, 0, 147, 176]
abbrev dktX7_lambda_term_3_0 : List UInt8 := dkwX7_lambda_term_3_0 ++ []
theorem dksX7_lambda_term_3_0 : cX7_lambda_term_3.data.toList.drop 0 = dktX7_lambda_term_3_0 := by decide +kernel
theorem dX7_lambda_term_3_0 : decode cX7_lambda_term_3 0 = .ok (.aload_n 0, 1) := dk_42 (dk_at dksX7_lambda_term_3_0 0 rfl rfl)
theorem dX7_lambda_term_3_1 : decode cX7_lambda_term_3 1 = .ok (.getfield 3, 3) := dk_180 0 3 (dk_at dksX7_lambda_term_3_0 1 rfl rfl)
theorem dX7_lambda_term_3_4 : decode cX7_lambda_term_3 4 = .ok (.iload_n 1, 1) := dk_27 (dk_at dksX7_lambda_term_3_0 4 rfl rfl)
theorem dX7_lambda_term_3_5 : decode cX7_lambda_term_3 5 = .ok (.iconst 0, 1) := dk_3 (dk_at dksX7_lambda_term_3_0 5 rfl rfl)
theorem dX7_lambda_term_3_6 : decode cX7_lambda_term_3 6 = .ok (.invokevirtual 147, 3) := dk_182 0 147 (dk_at dksX7_lambda_term_3_0 6 rfl rfl)
theorem dX7_lambda_term_3_9 : decode cX7_lambda_term_3 9 = .ok (.areturn, 1) := dk_176 (dk_at dksX7_lambda_term_3_0 9 rfl rfl)
abbrev cX7_lambda_term_4 : ByteArray := prog_11_method_16_code
def yX7_lambda_term_4 : MethodName := ⟨RX7, "lambda$term$4", "(I)LGameCalculator$Form;"⟩
def dkwX7_lambda_term_4_0 : List UInt8 := [42, 180, 0, 3, 27, 116, 3, 182, 0, 147, 176]
abbrev dktX7_lambda_term_4_0 : List UInt8 := dkwX7_lambda_term_4_0 ++ []
theorem dksX7_lambda_term_4_0 : cX7_lambda_term_4.data.toList.drop 0 = dktX7_lambda_term_4_0 := by decide +kernel
theorem dX7_lambda_term_4_0 : decode cX7_lambda_term_4 0 = .ok (.aload_n 0, 1) := dk_42 (dk_at dksX7_lambda_term_4_0 0 rfl rfl)
theorem dX7_lambda_term_4_1 : decode cX7_lambda_term_4 1 = .ok (.getfield 3, 3) := dk_180 0 3 (dk_at dksX7_lambda_term_4_0 1 rfl rfl)
theorem dX7_lambda_term_4_4 : decode cX7_lambda_term_4 4 = .ok (.iload_n 1, 1) := dk_27 (dk_at dksX7_lambda_term_4_0 4 rfl rfl)
theorem dX7_lambda_term_4_5 : decode cX7_lambda_term_4 5 = .ok (.ineg, 1) := dk_116 (dk_at dksX7_lambda_term_4_0 5 rfl rfl)
theorem dX7_lambda_term_4_6 : decode cX7_lambda_term_4 6 = .ok (.iconst 0, 1) := dk_3 (dk_at dksX7_lambda_term_4_0 6 rfl rfl)
theorem dX7_lambda_term_4_7 : decode cX7_lambda_term_4 7 = .ok (.invokevirtual 147, 3) := dk_182 0 147 (dk_at dksX7_lambda_term_4_0 7 rfl rfl)
theorem dX7_lambda_term_4_10 : decode cX7_lambda_term_4 10 = .ok (.areturn, 1) := dk_176 (dk_at dksX7_lambda_term_4_0 10 rfl rfl)
abbrev cX7_lambda_term_5 : ByteArray := prog_11_method_15_code
def yX7_lambda_term_5 : MethodName := ⟨RX7, "lambda$term$5", "(I)LGameCalculator$Form;"⟩
def dkwX7_lambda_term_5_0 : List UInt8 := [42, 180, 0, 3, 180, 0, 143, 27, 50, 176]
abbrev dktX7_lambda_term_5_0 : List UInt8 := dkwX7_lambda_term_5_0 ++ []
theorem dksX7_lambda_term_5_0 : cX7_lambda_term_5.data.toList.drop 0 = dktX7_lambda_term_5_0 := by decide +kernel
theorem dX7_lambda_term_5_0 : decode cX7_lambda_term_5 0 = .ok (.aload_n 0, 1) := dk_42 (dk_at dksX7_lambda_term_5_0 0 rfl rfl)
theorem dX7_lambda_term_5_1 : decode cX7_lambda_term_5 1 = .ok (.getfield 3, 3) := dk_180 0 3 (dk_at dksX7_lambda_term_5_0 1 rfl rfl)
theorem dX7_lambda_term_5_4 : decode cX7_lambda_term_5 4 = .ok (.getfield 143, 3) := dk_180 0 143 (dk_at dksX7_lambda_term_5_0 4 rfl rfl)
theorem dX7_lambda_term_5_7 : decode cX7_lambda_term_5 7 = .ok (.iload_n 1, 1) := dk_27 (dk_at dksX7_lambda_term_5_0 7 rfl rfl)
theorem dX7_lambda_term_5_8 : decode cX7_lambda_term_5 8 = .ok (.aaload, 1) := dk_50 (dk_at dksX7_lambda_term_5_0 8 rfl rfl)
theorem dX7_lambda_term_5_9 : decode cX7_lambda_term_5 9 = .ok (.areturn, 1) := dk_176 (dk_at dksX7_lambda_term_5_0 9 rfl rfl)
abbrev cX7_bracket : ByteArray := prog_11_method_13_code
def yX7_bracket : MethodName := ⟨RX7, "bracket", "(C)LGameCalculator$Expression;"⟩
def dkwX7_bracket_2 : List UInt8 := [16, 125, 182, 0, 122, 183, 0, 128, 77, 42, 89, 180, 0, 104, 4, 100, 181, 0, 104, 44, 176]
abbrev dktX7_bracket_2 : List UInt8 := dkwX7_bracket_2 ++ []
def dkwX7_bracket_1 : List UInt8 := [182, 0, 118, 167, 0, 29, 42, 16, 124, 182, 0, 122, 78, 187, 0, 126, 89, 42, 180, 0, 3, 45, 42]
abbrev dktX7_bracket_1 : List UInt8 := dkwX7_bracket_1 ++ dktX7_bracket_2
def dkwX7_bracket_0 : List UInt8 := [42, 89, 180, 0, 104, 4, 96, 181, 0, 104, 27, 16, 40, 160, 0, 17, 42, 182, 0, 50, 77, 42, 16, 41]
abbrev dktX7_bracket_0 : List UInt8 := dkwX7_bracket_0 ++ dktX7_bracket_1
theorem dksX7_bracket_0 : cX7_bracket.data.toList.drop 0 = dktX7_bracket_0 := by decide +kernel
theorem dksX7_bracket_1 : cX7_bracket.data.toList.drop 24 = dktX7_bracket_1 := dk_seg dksX7_bracket_0 24 rfl rfl
theorem dksX7_bracket_2 : cX7_bracket.data.toList.drop 47 = dktX7_bracket_2 := dk_seg dksX7_bracket_1 23 rfl rfl
theorem dX7_bracket_0 : decode cX7_bracket 0 = .ok (.aload_n 0, 1) := dk_42 (dk_at dksX7_bracket_0 0 rfl rfl)
theorem dX7_bracket_1 : decode cX7_bracket 1 = .ok (.dup, 1) := dk_89 (dk_at dksX7_bracket_0 1 rfl rfl)
theorem dX7_bracket_2 : decode cX7_bracket 2 = .ok (.getfield 104, 3) := dk_180 0 104 (dk_at dksX7_bracket_0 2 rfl rfl)
theorem dX7_bracket_5 : decode cX7_bracket 5 = .ok (.iconst 1, 1) := dk_4 (dk_at dksX7_bracket_0 5 rfl rfl)
theorem dX7_bracket_6 : decode cX7_bracket 6 = .ok (.iadd, 1) := dk_96 (dk_at dksX7_bracket_0 6 rfl rfl)
theorem dX7_bracket_7 : decode cX7_bracket 7 = .ok (.putfield 104, 3) := dk_181 0 104 (dk_at dksX7_bracket_0 7 rfl rfl)
theorem dX7_bracket_10 : decode cX7_bracket 10 = .ok (.iload_n 1, 1) := dk_27 (dk_at dksX7_bracket_0 10 rfl rfl)
theorem dX7_bracket_11 : decode cX7_bracket 11 = .ok (.bipush 40, 2) := dk_16 40 (dk_at dksX7_bracket_0 11 rfl rfl)
theorem dX7_bracket_13 : decode cX7_bracket 13 = .ok (.if_icmp .ne 17, 3) := dk_160 0 17 (dk_at dksX7_bracket_0 13 rfl rfl)
theorem dX7_bracket_16 : decode cX7_bracket 16 = .ok (.aload_n 0, 1) := dk_42 (dk_at dksX7_bracket_0 16 rfl rfl)
theorem dX7_bracket_17 : decode cX7_bracket 17 = .ok (.invokevirtual 50, 3) := dk_182 0 50 (dk_at dksX7_bracket_0 17 rfl rfl)
theorem dX7_bracket_20 : decode cX7_bracket 20 = .ok (.astore_n 2, 1) := dk_77 (dk_at dksX7_bracket_0 20 rfl rfl)
theorem dX7_bracket_21 : decode cX7_bracket 21 = .ok (.aload_n 0, 1) := dk_42 (dk_at dksX7_bracket_0 21 rfl rfl)
theorem dX7_bracket_22 : decode cX7_bracket 22 = .ok (.bipush 41, 2) := dk_16 41 (dk_at dksX7_bracket_0 22 rfl rfl)
theorem dX7_bracket_24 : decode cX7_bracket 24 = .ok (.invokevirtual 118, 3) := dk_182 0 118 (dk_at dksX7_bracket_1 0 rfl rfl)
theorem dX7_bracket_27 : decode cX7_bracket 27 = .ok (.goto 29, 3) := dk_167 0 29 (dk_at dksX7_bracket_1 3 rfl rfl)
theorem dX7_bracket_30 : decode cX7_bracket 30 = .ok (.aload_n 0, 1) := dk_42 (dk_at dksX7_bracket_1 6 rfl rfl)
theorem dX7_bracket_31 : decode cX7_bracket 31 = .ok (.bipush 124, 2) := dk_16 124 (dk_at dksX7_bracket_1 7 rfl rfl)
theorem dX7_bracket_33 : decode cX7_bracket 33 = .ok (.invokevirtual 122, 3) := dk_182 0 122 (dk_at dksX7_bracket_1 9 rfl rfl)
theorem dX7_bracket_36 : decode cX7_bracket 36 = .ok (.astore_n 3, 1) := dk_78 (dk_at dksX7_bracket_1 12 rfl rfl)
theorem dX7_bracket_37 : decode cX7_bracket 37 = .ok (.new 126, 3) := dk_187 0 126 (dk_at dksX7_bracket_1 13 rfl rfl)
theorem dX7_bracket_40 : decode cX7_bracket 40 = .ok (.dup, 1) := dk_89 (dk_at dksX7_bracket_1 16 rfl rfl)
theorem dX7_bracket_41 : decode cX7_bracket 41 = .ok (.aload_n 0, 1) := dk_42 (dk_at dksX7_bracket_1 17 rfl rfl)
theorem dX7_bracket_42 : decode cX7_bracket 42 = .ok (.getfield 3, 3) := dk_180 0 3 (dk_at dksX7_bracket_1 18 rfl rfl)
theorem dX7_bracket_45 : decode cX7_bracket 45 = .ok (.aload_n 3, 1) := dk_45 (dk_at dksX7_bracket_1 21 rfl rfl)
theorem dX7_bracket_46 : decode cX7_bracket 46 = .ok (.aload_n 0, 1) := dk_42 (dk_at dksX7_bracket_1 22 rfl rfl)
theorem dX7_bracket_47 : decode cX7_bracket 47 = .ok (.bipush 125, 2) := dk_16 125 (dk_at dksX7_bracket_2 0 rfl rfl)
theorem dX7_bracket_49 : decode cX7_bracket 49 = .ok (.invokevirtual 122, 3) := dk_182 0 122 (dk_at dksX7_bracket_2 2 rfl rfl)
theorem dX7_bracket_52 : decode cX7_bracket 52 = .ok (.invokespecial 128, 3) := dk_183 0 128 (dk_at dksX7_bracket_2 5 rfl rfl)
theorem dX7_bracket_55 : decode cX7_bracket 55 = .ok (.astore_n 2, 1) := dk_77 (dk_at dksX7_bracket_2 8 rfl rfl)
theorem dX7_bracket_56 : decode cX7_bracket 56 = .ok (.aload_n 0, 1) := dk_42 (dk_at dksX7_bracket_2 9 rfl rfl)
theorem dX7_bracket_57 : decode cX7_bracket 57 = .ok (.dup, 1) := dk_89 (dk_at dksX7_bracket_2 10 rfl rfl)
theorem dX7_bracket_58 : decode cX7_bracket 58 = .ok (.getfield 104, 3) := dk_180 0 104 (dk_at dksX7_bracket_2 11 rfl rfl)
theorem dX7_bracket_61 : decode cX7_bracket 61 = .ok (.iconst 1, 1) := dk_4 (dk_at dksX7_bracket_2 14 rfl rfl)
theorem dX7_bracket_62 : decode cX7_bracket 62 = .ok (.isub, 1) := dk_100 (dk_at dksX7_bracket_2 15 rfl rfl)
theorem dX7_bracket_63 : decode cX7_bracket 63 = .ok (.putfield 104, 3) := dk_181 0 104 (dk_at dksX7_bracket_2 16 rfl rfl)
theorem dX7_bracket_66 : decode cX7_bracket 66 = .ok (.aload_n 2, 1) := dk_44 (dk_at dksX7_bracket_2 19 rfl rfl)
theorem dX7_bracket_67 : decode cX7_bracket 67 = .ok (.areturn, 1) := dk_176 (dk_at dksX7_bracket_2 20 rfl rfl)
abbrev cX7_take : ByteArray := prog_11_method_5_code
def yX7_take : MethodName := ⟨RX7, "take", "(C)V"⟩
def dkwX7_take_0 : List UInt8 := [42, 42, 27, 182, 0, 42, 182, 0, 46, 177]
abbrev dktX7_take_0 : List UInt8 := dkwX7_take_0 ++ []
theorem dksX7_take_0 : cX7_take.data.toList.drop 0 = dktX7_take_0 := by decide +kernel
theorem dX7_take_0 : decode cX7_take 0 = .ok (.aload_n 0, 1) := dk_42 (dk_at dksX7_take_0 0 rfl rfl)
theorem dX7_take_1 : decode cX7_take 1 = .ok (.aload_n 0, 1) := dk_42 (dk_at dksX7_take_0 1 rfl rfl)
theorem dX7_take_2 : decode cX7_take 2 = .ok (.iload_n 1, 1) := dk_27 (dk_at dksX7_take_0 2 rfl rfl)
theorem dX7_take_3 : decode cX7_take 3 = .ok (.invokevirtual 42, 3) := dk_182 0 42 (dk_at dksX7_take_0 3 rfl rfl)
theorem dX7_take_6 : decode cX7_take 6 = .ok (.invokevirtual 46, 3) := dk_182 0 46 (dk_at dksX7_take_0 6 rfl rfl)
theorem dX7_take_9 : decode cX7_take 9 = .ok (.return_, 1) := dk_177 (dk_at dksX7_take_0 9 rfl rfl)
abbrev cX7_list : ByteArray := prog_11_method_14_code
def yX7_list : MethodName := ⟨RX7, "list", "(C)Ljava/util/List;"⟩
def dkwX7_list_2 : List UInt8 := [153, 0, 17, 44, 42, 182, 0, 50, 185, 0, 134, 2, 0, 87, 167, 255, 225, 42, 27, 182, 0, 118, 44, 176]
abbrev dktX7_list_2 : List UInt8 := dkwX7_list_2 ++ []
def dkwX7_list_1 : List UInt8 := [185, 0, 134, 2, 0, 87, 44, 185, 0, 140, 1, 0, 16, 6, 162, 0, 26, 42, 16, 44, 182, 0, 42]
abbrev dktX7_list_1 : List UInt8 := dkwX7_list_1 ++ dktX7_list_2
def dkwX7_list_0 : List UInt8 := [187, 0, 131, 89, 183, 0, 133, 77, 42, 27, 182, 0, 42, 153, 0, 5, 44, 176, 44, 42, 182, 0, 50]
abbrev dktX7_list_0 : List UInt8 := dkwX7_list_0 ++ dktX7_list_1
theorem dksX7_list_0 : cX7_list.data.toList.drop 0 = dktX7_list_0 := by decide +kernel
theorem dksX7_list_1 : cX7_list.data.toList.drop 23 = dktX7_list_1 := dk_seg dksX7_list_0 23 rfl rfl
theorem dksX7_list_2 : cX7_list.data.toList.drop 46 = dktX7_list_2 := dk_seg dksX7_list_1 23 rfl rfl
theorem dX7_list_0 : decode cX7_list 0 = .ok (.new 131, 3) := dk_187 0 131 (dk_at dksX7_list_0 0 rfl rfl)
theorem dX7_list_3 : decode cX7_list 3 = .ok (.dup, 1) := dk_89 (dk_at dksX7_list_0 3 rfl rfl)
theorem dX7_list_4 : decode cX7_list 4 = .ok (.invokespecial 133, 3) := dk_183 0 133 (dk_at dksX7_list_0 4 rfl rfl)
theorem dX7_list_7 : decode cX7_list 7 = .ok (.astore_n 2, 1) := dk_77 (dk_at dksX7_list_0 7 rfl rfl)
theorem dX7_list_8 : decode cX7_list 8 = .ok (.aload_n 0, 1) := dk_42 (dk_at dksX7_list_0 8 rfl rfl)
theorem dX7_list_9 : decode cX7_list 9 = .ok (.iload_n 1, 1) := dk_27 (dk_at dksX7_list_0 9 rfl rfl)
theorem dX7_list_10 : decode cX7_list 10 = .ok (.invokevirtual 42, 3) := dk_182 0 42 (dk_at dksX7_list_0 10 rfl rfl)
theorem dX7_list_13 : decode cX7_list 13 = .ok (.ifCond .eq 5, 3) := dk_153 0 5 (dk_at dksX7_list_0 13 rfl rfl)
theorem dX7_list_16 : decode cX7_list 16 = .ok (.aload_n 2, 1) := dk_44 (dk_at dksX7_list_0 16 rfl rfl)
theorem dX7_list_17 : decode cX7_list 17 = .ok (.areturn, 1) := dk_176 (dk_at dksX7_list_0 17 rfl rfl)
theorem dX7_list_18 : decode cX7_list 18 = .ok (.aload_n 2, 1) := dk_44 (dk_at dksX7_list_0 18 rfl rfl)
theorem dX7_list_19 : decode cX7_list 19 = .ok (.aload_n 0, 1) := dk_42 (dk_at dksX7_list_0 19 rfl rfl)
theorem dX7_list_20 : decode cX7_list 20 = .ok (.invokevirtual 50, 3) := dk_182 0 50 (dk_at dksX7_list_0 20 rfl rfl)
theorem dX7_list_23 : decode cX7_list 23 = .ok (.invokeinterface 134 2, 5) := by decide +kernel
theorem dX7_list_28 : decode cX7_list 28 = .ok (.pop, 1) := dk_87 (dk_at dksX7_list_1 5 rfl rfl)
theorem dX7_list_29 : decode cX7_list 29 = .ok (.aload_n 2, 1) := dk_44 (dk_at dksX7_list_1 6 rfl rfl)
theorem dX7_list_30 : decode cX7_list 30 = .ok (.invokeinterface 140 1, 5) := by decide +kernel
theorem dX7_list_35 : decode cX7_list 35 = .ok (.bipush 6, 2) := dk_16 6 (dk_at dksX7_list_1 12 rfl rfl)
theorem dX7_list_37 : decode cX7_list 37 = .ok (.if_icmp .ge 26, 3) := dk_162 0 26 (dk_at dksX7_list_1 14 rfl rfl)
theorem dX7_list_40 : decode cX7_list 40 = .ok (.aload_n 0, 1) := dk_42 (dk_at dksX7_list_1 17 rfl rfl)
theorem dX7_list_41 : decode cX7_list 41 = .ok (.bipush 44, 2) := dk_16 44 (dk_at dksX7_list_1 18 rfl rfl)
theorem dX7_list_43 : decode cX7_list 43 = .ok (.invokevirtual 42, 3) := dk_182 0 42 (dk_at dksX7_list_1 20 rfl rfl)
theorem dX7_list_46 : decode cX7_list 46 = .ok (.ifCond .eq 17, 3) := dk_153 0 17 (dk_at dksX7_list_2 0 rfl rfl)
theorem dX7_list_49 : decode cX7_list 49 = .ok (.aload_n 2, 1) := dk_44 (dk_at dksX7_list_2 3 rfl rfl)
theorem dX7_list_50 : decode cX7_list 50 = .ok (.aload_n 0, 1) := dk_42 (dk_at dksX7_list_2 4 rfl rfl)
theorem dX7_list_51 : decode cX7_list 51 = .ok (.invokevirtual 50, 3) := dk_182 0 50 (dk_at dksX7_list_2 5 rfl rfl)
theorem dX7_list_54 : decode cX7_list 54 = .ok (.invokeinterface 134 2, 5) := by decide +kernel
theorem dX7_list_59 : decode cX7_list 59 = .ok (.pop, 1) := dk_87 (dk_at dksX7_list_2 13 rfl rfl)
theorem dX7_list_60 : decode cX7_list 60 = .ok (.goto (-31), 3) := dk_167 255 225 (dk_at dksX7_list_2 14 rfl rfl)
theorem dX7_list_63 : decode cX7_list 63 = .ok (.aload_n 0, 1) := dk_42 (dk_at dksX7_list_2 17 rfl rfl)
theorem dX7_list_64 : decode cX7_list 64 = .ok (.iload_n 1, 1) := dk_27 (dk_at dksX7_list_2 18 rfl rfl)
theorem dX7_list_65 : decode cX7_list 65 = .ok (.invokevirtual 118, 3) := dk_182 0 118 (dk_at dksX7_list_2 19 rfl rfl)
theorem dX7_list_68 : decode cX7_list 68 = .ok (.aload_n 2, 1) := dk_44 (dk_at dksX7_list_2 22 rfl rfl)
theorem dX7_list_69 : decode cX7_list 69 = .ok (.areturn, 1) := dk_176 (dk_at dksX7_list_2 23 rfl rfl)
theorem q175 : (Jvm.Cond.initialized "GameCalculator$Parser") ∈ lw_all := lw_g (lw_at lw_m1 44 rfl) rfl
theorem q405 : (Jvm.Cond.fieldLinkNest "GameCalculator$Parser" (143 : Nat) "GameCalculator" "slots" "[LGameCalculator$Form;" "GameCalculator") ∈ lw_tbl := lw_at lw_m2 34 rfl
theorem q412 : (Jvm.Cond.fieldLinkNest "GameCalculator$Parser" (19 : Nat) "GameCalculator" "text" "Ljava/lang/StringBuilder;" "GameCalculator") ∈ lw_tbl := lw_at lw_m2 41 rfl
theorem q824 : (Jvm.Cond.selects "GameCalculator$Parser" ({ cls := "java/lang/Object", name := "getClass", desc := "()Ljava/lang/Class;" } : Jvm.MethodName) ({ cls := "java/lang/Object", name := "getClass", desc := "()Ljava/lang/Class;" } : Jvm.MethodName)) ∈ lw_all := lw_g (lw_at lw_m3 213 rfl) rfl
theorem q1911 : (Jvm.Cond.instantiable "GameCalculator$Parser" (3 : Nat)) ∈ lw_all := lw_g (lw_at lw_m8 100 rfl) rfl
theorem q1913 : (Jvm.Cond.instanceMethod ({ cls := "GameCalculator$Parser", name := "<init>", desc := "(LGameCalculator;)V" } : Jvm.MethodName)) ∈ lw_all := lw_g (lw_at lw_m8 102 rfl) rfl
theorem q1914 : (Jvm.Cond.code ({ cls := "GameCalculator$Parser", name := "<init>", desc := "(LGameCalculator;)V" } : Jvm.MethodName) prog_11_method_1_code (2 : Nat) (Option.none : Option Jvm.ClassFile.FieldType)) ∈ lw_all := lw_g (lw_at lw_m8 103 rfl) rfl
theorem q1915 : (Jvm.Cond.methodLink "GameCalculator$Parser" (9 : Nat) ({ cls := "java/lang/Object", name := "<init>", desc := "()V" } : Jvm.MethodName)) ∈ lw_all := lw_g (lw_at lw_m8 104 rfl) rfl
theorem q1916 : (Jvm.Cond.fieldLink "GameCalculator$Parser" (15 : Nat) "GameCalculator$Parser" "position" "I") ∈ lw_all := lw_g (lw_at lw_m8 105 rfl) rfl
theorem q1917 : (Jvm.Cond.fieldLink "GameCalculator$Parser" (104 : Nat) "GameCalculator$Parser" "brackets" "I") ∈ lw_all := lw_g (lw_at lw_m8 106 rfl) rfl
theorem q1918 : (Jvm.Cond.fieldLink "GameCalculator$Parser" (3 : Nat) "GameCalculator$Parser" "this$0" "LGameCalculator;") ∈ lw_all := lw_g (lw_at lw_m8 107 rfl) rfl
theorem q1919 : (Jvm.Cond.lays "GameCalculator$Parser" "GameCalculator$Parser" "position" "I") ∈ lw_all := lw_g (lw_at lw_m8 108 rfl) rfl
theorem q1920 : (Jvm.Cond.soleField "GameCalculator$Parser" "position") ∈ lw_all := lw_g (lw_at lw_m8 109 rfl) rfl
theorem q1921 : (Jvm.Cond.lays "GameCalculator$Parser" "GameCalculator$Parser" "brackets" "I") ∈ lw_all := lw_g (lw_at lw_m8 110 rfl) rfl
theorem q1922 : (Jvm.Cond.soleField "GameCalculator$Parser" "brackets") ∈ lw_all := lw_g (lw_at lw_m8 111 rfl) rfl
theorem q1923 : (Jvm.Cond.laysFinal "GameCalculator$Parser" "GameCalculator$Parser" "this$0" "LGameCalculator;") ∈ lw_all := lw_g (lw_at lw_m8 112 rfl) rfl
theorem q1924 : (Jvm.Cond.soleField "GameCalculator$Parser" "this$0") ∈ lw_all := lw_g (lw_at lw_m8 113 rfl) rfl
theorem q1925 : (Jvm.Cond.superclass "GameCalculator$Parser" "java/lang/Object") ∈ lw_all := lw_g (lw_at lw_m8 114 rfl) rfl
theorem q1927 : (Jvm.Cond.instanceMethod ({ cls := "GameCalculator$Parser", name := "parse", desc := "()LGameCalculator$Expression;" } : Jvm.MethodName)) ∈ lw_all := lw_g (lw_at lw_m8 116 rfl) rfl
theorem q1928 : (Jvm.Cond.selects "GameCalculator$Parser" ({ cls := "GameCalculator$Parser", name := "parse", desc := "()LGameCalculator$Expression;" } : Jvm.MethodName) ({ cls := "GameCalculator$Parser", name := "parse", desc := "()LGameCalculator$Expression;" } : Jvm.MethodName)) ∈ lw_all := lw_g (lw_at lw_m8 117 rfl) rfl
theorem q1929 : (Jvm.Cond.code ({ cls := "GameCalculator$Parser", name := "parse", desc := "()LGameCalculator$Expression;" } : Jvm.MethodName) prog_11_method_6_code (3 : Nat) (Option.some (Jvm.ClassFile.FieldType.object "GameCalculator$Expression"))) ∈ lw_all := lw_g (lw_at lw_m8 118 rfl) rfl
theorem q1930 : (Jvm.Cond.methodLink "GameCalculator$Parser" (50 : Nat) ({ cls := "GameCalculator$Parser", name := "expression", desc := "()LGameCalculator$Expression;" } : Jvm.MethodName)) ∈ lw_all := lw_g (lw_at lw_m8 119 rfl) rfl
theorem q1931 : (Jvm.Cond.privateMethod ({ cls := "GameCalculator$Parser", name := "expression", desc := "()LGameCalculator$Expression;" } : Jvm.MethodName)) ∈ lw_tbl := lw_at lw_m8 120 rfl
theorem q1932 : (Jvm.Cond.instanceMethod ({ cls := "GameCalculator$Parser", name := "expression", desc := "()LGameCalculator$Expression;" } : Jvm.MethodName)) ∈ lw_all := lw_g (lw_at lw_m8 121 rfl) rfl
theorem q1933 : (Jvm.Cond.code ({ cls := "GameCalculator$Parser", name := "expression", desc := "()LGameCalculator$Expression;" } : Jvm.MethodName) prog_11_method_7_code (5 : Nat) (Option.some (Jvm.ClassFile.FieldType.object "GameCalculator$Expression"))) ∈ lw_all := lw_g (lw_at lw_m8 122 rfl) rfl
theorem q1934 : (Jvm.Cond.methodLink "GameCalculator$Parser" (42 : Nat) ({ cls := "GameCalculator$Parser", name := "takeIf", desc := "(C)Z" } : Jvm.MethodName)) ∈ lw_all := lw_g (lw_at lw_m8 123 rfl) rfl
theorem q1935 : (Jvm.Cond.privateMethod ({ cls := "GameCalculator$Parser", name := "takeIf", desc := "(C)Z" } : Jvm.MethodName)) ∈ lw_tbl := lw_at lw_m8 124 rfl
theorem q1936 : (Jvm.Cond.instanceMethod ({ cls := "GameCalculator$Parser", name := "takeIf", desc := "(C)Z" } : Jvm.MethodName)) ∈ lw_all := lw_g (lw_at lw_m8 125 rfl) rfl
theorem q1937 : (Jvm.Cond.code ({ cls := "GameCalculator$Parser", name := "takeIf", desc := "(C)Z" } : Jvm.MethodName) prog_11_method_4_code (3 : Nat) (Option.some Jvm.ClassFile.FieldType.boolean)) ∈ lw_all := lw_g (lw_at lw_m8 126 rfl) rfl
theorem q1938 : (Jvm.Cond.methodLink "GameCalculator$Parser" (38 : Nat) ({ cls := "GameCalculator$Parser", name := "here", desc := "()C" } : Jvm.MethodName)) ∈ lw_all := lw_g (lw_at lw_m8 127 rfl) rfl
theorem q1939 : (Jvm.Cond.privateMethod ({ cls := "GameCalculator$Parser", name := "here", desc := "()C" } : Jvm.MethodName)) ∈ lw_tbl := lw_at lw_m8 128 rfl
theorem q1940 : (Jvm.Cond.instanceMethod ({ cls := "GameCalculator$Parser", name := "here", desc := "()C" } : Jvm.MethodName)) ∈ lw_all := lw_g (lw_at lw_m8 129 rfl) rfl
theorem q1941 : (Jvm.Cond.code ({ cls := "GameCalculator$Parser", name := "here", desc := "()C" } : Jvm.MethodName) prog_11_method_2_code (1 : Nat) (Option.some Jvm.ClassFile.FieldType.char)) ∈ lw_all := lw_g (lw_at lw_m8 130 rfl) rfl
theorem q1942 : (Jvm.Cond.methodLink "GameCalculator$Parser" (23 : Nat) ({ cls := "java/lang/StringBuilder", name := "length", desc := "()I" } : Jvm.MethodName)) ∈ lw_all := lw_g (lw_at lw_m8 131 rfl) rfl
theorem q1943 : (Jvm.Cond.methodLink "GameCalculator$Parser" (29 : Nat) ({ cls := "java/lang/StringBuilder", name := "charAt", desc := "(I)C" } : Jvm.MethodName)) ∈ lw_all := lw_g (lw_at lw_m8 132 rfl) rfl
theorem q1953 : (Jvm.Cond.methodLink "GameCalculator$Parser" (54 : Nat) ({ cls := "GameCalculator$Parser", name := "term", desc := "()LGameCalculator$Expression;" } : Jvm.MethodName)) ∈ lw_all := lw_g (lw_at lw_m8 142 rfl) rfl
theorem q1954 : (Jvm.Cond.privateMethod ({ cls := "GameCalculator$Parser", name := "term", desc := "()LGameCalculator$Expression;" } : Jvm.MethodName)) ∈ lw_tbl := lw_at lw_m8 143 rfl
theorem q1955 : (Jvm.Cond.instanceMethod ({ cls := "GameCalculator$Parser", name := "term", desc := "()LGameCalculator$Expression;" } : Jvm.MethodName)) ∈ lw_all := lw_g (lw_at lw_m8 144 rfl) rfl
theorem q1956 : (Jvm.Cond.code ({ cls := "GameCalculator$Parser", name := "term", desc := "()LGameCalculator$Expression;" } : Jvm.MethodName) prog_11_method_12_code (6 : Nat) (Option.some (Jvm.ClassFile.FieldType.object "GameCalculator$Expression"))) ∈ lw_all := lw_g (lw_at lw_m8 145 rfl) rfl
theorem q1957 : (Jvm.Cond.methodLink "GameCalculator$Parser" (71 : Nat) ({ cls := "GameCalculator$Parser", name := "isDigit", desc := "(C)Z" } : Jvm.MethodName)) ∈ lw_all := lw_g (lw_at lw_m8 146 rfl) rfl
theorem q1958 : (Jvm.Cond.static ({ cls := "GameCalculator$Parser", name := "isDigit", desc := "(C)Z" } : Jvm.MethodName)) ∈ lw_all := lw_g (lw_at lw_m8 147 rfl) rfl
theorem q1959 : (Jvm.Cond.code ({ cls := "GameCalculator$Parser", name := "isDigit", desc := "(C)Z" } : Jvm.MethodName) prog_11_method_8_code (1 : Nat) (Option.some Jvm.ClassFile.FieldType.boolean)) ∈ lw_all := lw_g (lw_at lw_m8 148 rfl) rfl
theorem q1960 : (Jvm.Cond.methodLinkNest "GameCalculator$Parser" (67 : Nat) ({ cls := "GameCalculator", name := "isBetween", desc := "(III)Z" } : Jvm.MethodName) "GameCalculator") ∈ lw_tbl := lw_at lw_m8 149 rfl
theorem q1961 : (Jvm.Cond.methodLink "GameCalculator$Parser" (101 : Nat) ({ cls := "GameCalculator$Parser", name := "number", desc := "()LGameCalculator$Expression;" } : Jvm.MethodName)) ∈ lw_all := lw_g (lw_at lw_m8 150 rfl) rfl
theorem q1962 : (Jvm.Cond.privateMethod ({ cls := "GameCalculator$Parser", name := "number", desc := "()LGameCalculator$Expression;" } : Jvm.MethodName)) ∈ lw_tbl := lw_at lw_m8 151 rfl
theorem q1963 : (Jvm.Cond.instanceMethod ({ cls := "GameCalculator$Parser", name := "number", desc := "()LGameCalculator$Expression;" } : Jvm.MethodName)) ∈ lw_all := lw_g (lw_at lw_m8 152 rfl) rfl
theorem q1964 : (Jvm.Cond.code ({ cls := "GameCalculator$Parser", name := "number", desc := "()LGameCalculator$Expression;" } : Jvm.MethodName) prog_11_method_11_code (5 : Nat) (Option.some (Jvm.ClassFile.FieldType.object "GameCalculator$Expression"))) ∈ lw_all := lw_g (lw_at lw_m8 153 rfl) rfl
theorem q1965 : (Jvm.Cond.methodLink "GameCalculator$Parser" (80 : Nat) ({ cls := "GameCalculator$Parser", name := "digits", desc := "(II)I" } : Jvm.MethodName)) ∈ lw_all := lw_g (lw_at lw_m8 154 rfl) rfl
theorem q1966 : (Jvm.Cond.privateMethod ({ cls := "GameCalculator$Parser", name := "digits", desc := "(II)I" } : Jvm.MethodName)) ∈ lw_tbl := lw_at lw_m8 155 rfl
theorem q1967 : (Jvm.Cond.instanceMethod ({ cls := "GameCalculator$Parser", name := "digits", desc := "(II)I" } : Jvm.MethodName)) ∈ lw_all := lw_g (lw_at lw_m8 156 rfl) rfl
theorem q1968 : (Jvm.Cond.code ({ cls := "GameCalculator$Parser", name := "digits", desc := "(II)I" } : Jvm.MethodName) prog_11_method_9_code (7 : Nat) (Option.some Jvm.ClassFile.FieldType.int)) ∈ lw_all := lw_g (lw_at lw_m8 157 rfl) rfl
theorem q1969 : (Jvm.Cond.methodLink "GameCalculator$Parser" (74 : Nat) ({ cls := "java/lang/Math", name := "min", desc := "(II)I" } : Jvm.MethodName)) ∈ lw_all := lw_g (lw_at lw_m8 158 rfl) rfl
theorem q1970 : (Jvm.Cond.methodLink "GameCalculator$Parser" (46 : Nat) ({ cls := "GameCalculator$Parser", name := "require", desc := "(Z)V" } : Jvm.MethodName)) ∈ lw_all := lw_g (lw_at lw_m8 159 rfl) rfl
theorem q1971 : (Jvm.Cond.privateMethod ({ cls := "GameCalculator$Parser", name := "require", desc := "(Z)V" } : Jvm.MethodName)) ∈ lw_tbl := lw_at lw_m8 160 rfl
theorem q1972 : (Jvm.Cond.instanceMethod ({ cls := "GameCalculator$Parser", name := "require", desc := "(Z)V" } : Jvm.MethodName)) ∈ lw_all := lw_g (lw_at lw_m8 161 rfl) rfl
theorem q1973 : (Jvm.Cond.code ({ cls := "GameCalculator$Parser", name := "require", desc := "(Z)V" } : Jvm.MethodName) prog_11_method_3_code (2 : Nat) (Option.none : Option Jvm.ClassFile.FieldType)) ∈ lw_all := lw_g (lw_at lw_m8 162 rfl) rfl
theorem q1974 : (Jvm.Cond.classLink "GameCalculator$Parser" (33 : Nat) "GameCalculator$SyntaxException") ∈ lw_all := lw_g (lw_at lw_m8 163 rfl) rfl
theorem q1983 : (Jvm.Cond.methodLink "GameCalculator$Parser" (35 : Nat) ({ cls := "GameCalculator$SyntaxException", name := "<init>", desc := "(I)V" } : Jvm.MethodName)) ∈ lw_all := lw_g (lw_at lw_m8 172 rfl) rfl
theorem q1994 : (Jvm.Cond.classLink "GameCalculator$Parser" (83 : Nat) "GameCalculator$Known") ∈ lw_all := lw_g (lw_at lw_m8 183 rfl) rfl
theorem q1996 : (Jvm.Cond.privateMethod ({ cls := "GameCalculator$Parser", name := "lambda$number$0", desc := "(I)LGameCalculator$Form;" } : Jvm.MethodName)) ∈ lw_tbl := lw_at lw_m8 185 rfl
theorem q1997 : (Jvm.Cond.instanceMethod ({ cls := "GameCalculator$Parser", name := "lambda$number$0", desc := "(I)LGameCalculator$Form;" } : Jvm.MethodName)) ∈ lw_all := lw_g (lw_at lw_m8 186 rfl) rfl
theorem q1998 : (Jvm.Cond.code ({ cls := "GameCalculator$Parser", name := "lambda$number$0", desc := "(I)LGameCalculator$Form;" } : Jvm.MethodName) prog_11_method_20_code (2 : Nat) (Option.some (Jvm.ClassFile.FieldType.object "GameCalculator$Form"))) ∈ lw_all := lw_g (lw_at lw_m8 187 rfl) rfl
theorem q1999 : (Jvm.Cond.constantLong "GameCalculator$Parser" (155 : Nat) (4294967296 : Int64)) ∈ lw_all := lw_g (lw_at lw_m8 188 rfl) rfl
theorem q2000 : (Jvm.Cond.methodLinkNest "GameCalculator$Parser" (157 : Nat) ({ cls := "GameCalculator", name := "numberForm", desc := "(J)LGameCalculator$Form;" } : Jvm.MethodName) "GameCalculator") ∈ lw_tbl := lw_at lw_m8 189 rfl
theorem q2001 : (Jvm.Cond.methodLink "GameCalculator$Parser" (89 : Nat) ({ cls := "GameCalculator$Known", name := "<init>", desc := "(LGameCalculator$Maker;)V" } : Jvm.MethodName)) ∈ lw_all := lw_g (lw_at lw_m8 190 rfl) rfl
theorem q2012 : (Jvm.Cond.methodLink "GameCalculator$Parser" (92 : Nat) ({ cls := "java/lang/Integer", name := "bitCount", desc := "(I)I" } : Jvm.MethodName)) ∈ lw_all := lw_g (lw_at lw_m8 201 rfl) rfl
theorem q2018 : (Jvm.Cond.privateMethod ({ cls := "GameCalculator$Parser", name := "lambda$number$1", desc := "(II)LGameCalculator$Form;" } : Jvm.MethodName)) ∈ lw_tbl := lw_at lw_m8 207 rfl
theorem q2019 : (Jvm.Cond.instanceMethod ({ cls := "GameCalculator$Parser", name := "lambda$number$1", desc := "(II)LGameCalculator$Form;" } : Jvm.MethodName)) ∈ lw_all := lw_g (lw_at lw_m8 208 rfl) rfl
theorem q2020 : (Jvm.Cond.code ({ cls := "GameCalculator$Parser", name := "lambda$number$1", desc := "(II)LGameCalculator$Form;" } : Jvm.MethodName) prog_11_method_19_code (3 : Nat) (Option.some (Jvm.ClassFile.FieldType.object "GameCalculator$Form"))) ∈ lw_all := lw_g (lw_at lw_m8 209 rfl) rfl
theorem q2021 : (Jvm.Cond.methodLink "GameCalculator$Parser" (107 : Nat) ({ cls := "GameCalculator$Parser", name := "digit", desc := "(II)I" } : Jvm.MethodName)) ∈ lw_all := lw_g (lw_at lw_m8 210 rfl) rfl
theorem q2022 : (Jvm.Cond.privateMethod ({ cls := "GameCalculator$Parser", name := "digit", desc := "(II)I" } : Jvm.MethodName)) ∈ lw_tbl := lw_at lw_m8 211 rfl
theorem q2023 : (Jvm.Cond.instanceMethod ({ cls := "GameCalculator$Parser", name := "digit", desc := "(II)I" } : Jvm.MethodName)) ∈ lw_all := lw_g (lw_at lw_m8 212 rfl) rfl
theorem q2024 : (Jvm.Cond.code ({ cls := "GameCalculator$Parser", name := "digit", desc := "(II)I" } : Jvm.MethodName) prog_11_method_10_code (4 : Nat) (Option.some Jvm.ClassFile.FieldType.int)) ∈ lw_all := lw_g (lw_at lw_m8 213 rfl) rfl
theorem q2025 : (Jvm.Cond.privateMethod ({ cls := "GameCalculator$Parser", name := "lambda$term$2", desc := "(I)LGameCalculator$Form;" } : Jvm.MethodName)) ∈ lw_tbl := lw_at lw_m8 214 rfl
theorem q2026 : (Jvm.Cond.instanceMethod ({ cls := "GameCalculator$Parser", name := "lambda$term$2", desc := "(I)LGameCalculator$Form;" } : Jvm.MethodName)) ∈ lw_all := lw_g (lw_at lw_m8 215 rfl) rfl
theorem q2027 : (Jvm.Cond.code ({ cls := "GameCalculator$Parser", name := "lambda$term$2", desc := "(I)LGameCalculator$Form;" } : Jvm.MethodName) prog_11_method_18_code (2 : Nat) (Option.some (Jvm.ClassFile.FieldType.object "GameCalculator$Form"))) ∈ lw_all := lw_g (lw_at lw_m8 216 rfl) rfl
theorem q2028 : (Jvm.Cond.methodLinkNest "GameCalculator$Parser" (151 : Nat) ({ cls := "GameCalculator", name := "nimberForm", desc := "(I)LGameCalculator$Form;" } : Jvm.MethodName) "GameCalculator") ∈ lw_tbl := lw_at lw_m8 217 rfl
theorem q2029 : (Jvm.Cond.privateMethod ({ cls := "GameCalculator$Parser", name := "lambda$term$3", desc := "(I)LGameCalculator$Form;" } : Jvm.MethodName)) ∈ lw_tbl := lw_at lw_m8 218 rfl
theorem q2030 : (Jvm.Cond.instanceMethod ({ cls := "GameCalculator$Parser", name := "lambda$term$3", desc := "(I)LGameCalculator$Form;" } : Jvm.MethodName)) ∈ lw_all := lw_g (lw_at lw_m8 219 rfl) rfl
theorem q2031 : (Jvm.Cond.code ({ cls := "GameCalculator$Parser", name := "lambda$term$3", desc := "(I)LGameCalculator$Form;" } : Jvm.MethodName) prog_11_method_17_code (2 : Nat) (Option.some (Jvm.ClassFile.FieldType.object "GameCalculator$Form"))) ∈ lw_all := lw_g (lw_at lw_m8 220 rfl) rfl
theorem q2032 : (Jvm.Cond.methodLinkNest "GameCalculator$Parser" (147 : Nat) ({ cls := "GameCalculator", name := "upForm", desc := "(II)LGameCalculator$Form;" } : Jvm.MethodName) "GameCalculator") ∈ lw_tbl := lw_at lw_m8 221 rfl
theorem q2033 : (Jvm.Cond.privateMethod ({ cls := "GameCalculator$Parser", name := "lambda$term$4", desc := "(I)LGameCalculator$Form;" } : Jvm.MethodName)) ∈ lw_tbl := lw_at lw_m8 222 rfl
theorem q2034 : (Jvm.Cond.instanceMethod ({ cls := "GameCalculator$Parser", name := "lambda$term$4", desc := "(I)LGameCalculator$Form;" } : Jvm.MethodName)) ∈ lw_all := lw_g (lw_at lw_m8 223 rfl) rfl
theorem q2035 : (Jvm.Cond.code ({ cls := "GameCalculator$Parser", name := "lambda$term$4", desc := "(I)LGameCalculator$Form;" } : Jvm.MethodName) prog_11_method_16_code (2 : Nat) (Option.some (Jvm.ClassFile.FieldType.object "GameCalculator$Form"))) ∈ lw_all := lw_g (lw_at lw_m8 224 rfl) rfl
theorem q2036 : (Jvm.Cond.privateMethod ({ cls := "GameCalculator$Parser", name := "lambda$term$5", desc := "(I)LGameCalculator$Form;" } : Jvm.MethodName)) ∈ lw_tbl := lw_at lw_m8 225 rfl
theorem q2037 : (Jvm.Cond.instanceMethod ({ cls := "GameCalculator$Parser", name := "lambda$term$5", desc := "(I)LGameCalculator$Form;" } : Jvm.MethodName)) ∈ lw_all := lw_g (lw_at lw_m8 226 rfl) rfl
theorem q2038 : (Jvm.Cond.code ({ cls := "GameCalculator$Parser", name := "lambda$term$5", desc := "(I)LGameCalculator$Form;" } : Jvm.MethodName) prog_11_method_15_code (2 : Nat) (Option.some (Jvm.ClassFile.FieldType.object "GameCalculator$Form"))) ∈ lw_all := lw_g (lw_at lw_m8 227 rfl) rfl
theorem q2039 : (Jvm.Cond.methodLink "GameCalculator$Parser" (114 : Nat) ({ cls := "GameCalculator$Parser", name := "bracket", desc := "(C)LGameCalculator$Expression;" } : Jvm.MethodName)) ∈ lw_all := lw_g (lw_at lw_m8 228 rfl) rfl
theorem q2040 : (Jvm.Cond.privateMethod ({ cls := "GameCalculator$Parser", name := "bracket", desc := "(C)LGameCalculator$Expression;" } : Jvm.MethodName)) ∈ lw_tbl := lw_at lw_m8 229 rfl
theorem q2041 : (Jvm.Cond.instanceMethod ({ cls := "GameCalculator$Parser", name := "bracket", desc := "(C)LGameCalculator$Expression;" } : Jvm.MethodName)) ∈ lw_all := lw_g (lw_at lw_m8 230 rfl) rfl
theorem q2042 : (Jvm.Cond.code ({ cls := "GameCalculator$Parser", name := "bracket", desc := "(C)LGameCalculator$Expression;" } : Jvm.MethodName) prog_11_method_13_code (4 : Nat) (Option.some (Jvm.ClassFile.FieldType.object "GameCalculator$Expression"))) ∈ lw_all := lw_g (lw_at lw_m8 231 rfl) rfl
theorem q2043 : (Jvm.Cond.methodLink "GameCalculator$Parser" (118 : Nat) ({ cls := "GameCalculator$Parser", name := "take", desc := "(C)V" } : Jvm.MethodName)) ∈ lw_all := lw_g (lw_at lw_m8 232 rfl) rfl
theorem q2044 : (Jvm.Cond.privateMethod ({ cls := "GameCalculator$Parser", name := "take", desc := "(C)V" } : Jvm.MethodName)) ∈ lw_tbl := lw_at lw_m8 233 rfl
theorem q2045 : (Jvm.Cond.instanceMethod ({ cls := "GameCalculator$Parser", name := "take", desc := "(C)V" } : Jvm.MethodName)) ∈ lw_all := lw_g (lw_at lw_m8 234 rfl) rfl
theorem q2046 : (Jvm.Cond.code ({ cls := "GameCalculator$Parser", name := "take", desc := "(C)V" } : Jvm.MethodName) prog_11_method_5_code (2 : Nat) (Option.none : Option Jvm.ClassFile.FieldType)) ∈ lw_all := lw_g (lw_at lw_m8 235 rfl) rfl
theorem q2047 : (Jvm.Cond.methodLink "GameCalculator$Parser" (122 : Nat) ({ cls := "GameCalculator$Parser", name := "list", desc := "(C)Ljava/util/List;" } : Jvm.MethodName)) ∈ lw_all := lw_g (lw_at lw_m8 236 rfl) rfl
theorem q2048 : (Jvm.Cond.privateMethod ({ cls := "GameCalculator$Parser", name := "list", desc := "(C)Ljava/util/List;" } : Jvm.MethodName)) ∈ lw_tbl := lw_at lw_m8 237 rfl
theorem q2049 : (Jvm.Cond.instanceMethod ({ cls := "GameCalculator$Parser", name := "list", desc := "(C)Ljava/util/List;" } : Jvm.MethodName)) ∈ lw_all := lw_g (lw_at lw_m8 238 rfl) rfl
theorem q2050 : (Jvm.Cond.code ({ cls := "GameCalculator$Parser", name := "list", desc := "(C)Ljava/util/List;" } : Jvm.MethodName) prog_11_method_14_code (3 : Nat) (Option.some (Jvm.ClassFile.FieldType.object "java/util/List"))) ∈ lw_all := lw_g (lw_at lw_m8 239 rfl) rfl
theorem q2051 : (Jvm.Cond.classLink "GameCalculator$Parser" (131 : Nat) "java/util/ArrayList") ∈ lw_all := lw_g (lw_at lw_m9 0 rfl) rfl
theorem q2052 : (Jvm.Cond.methodLink "GameCalculator$Parser" (133 : Nat) ({ cls := "java/util/ArrayList", name := "<init>", desc := "()V" } : Jvm.MethodName)) ∈ lw_all := lw_g (lw_at lw_m9 1 rfl) rfl
theorem q2053 : (Jvm.Cond.interfaceEntry "GameCalculator$Parser" (134 : Nat)) ∈ lw_tbl := lw_at lw_m9 2 rfl
theorem q2054 : (Jvm.Cond.methodLink "GameCalculator$Parser" (134 : Nat) ({ cls := "java/util/List", name := "add", desc := "(Ljava/lang/Object;)Z" } : Jvm.MethodName)) ∈ lw_all := lw_g (lw_at lw_m9 3 rfl) rfl
theorem q2055 : (Jvm.Cond.interfaceEntry "GameCalculator$Parser" (140 : Nat)) ∈ lw_tbl := lw_at lw_m9 4 rfl
theorem q2056 : (Jvm.Cond.methodLink "GameCalculator$Parser" (140 : Nat) ({ cls := "java/util/List", name := "size", desc := "()I" } : Jvm.MethodName)) ∈ lw_all := lw_g (lw_at lw_m9 5 rfl) rfl
theorem q2057 : (Jvm.Cond.classLink "GameCalculator$Parser" (126 : Nat) "GameCalculator$Braces") ∈ lw_all := lw_g (lw_at lw_m9 6 rfl) rfl
theorem q2059 : (Jvm.Cond.methodLink "GameCalculator$Parser" (128 : Nat) ({ cls := "GameCalculator$Braces", name := "<init>", desc := "(LGameCalculator;Ljava/util/List;Ljava/util/List;)V" } : Jvm.MethodName)) ∈ lw_all := lw_g (lw_at lw_m9 8 rfl) rfl
theorem q2073 : (Jvm.Cond.classLink "GameCalculator$Parser" (57 : Nat) "GameCalculator$Negative") ∈ lw_all := lw_g (lw_at lw_m9 22 rfl) rfl
theorem q2075 : (Jvm.Cond.methodLink "GameCalculator$Parser" (59 : Nat) ({ cls := "GameCalculator$Negative", name := "<init>", desc := "(LGameCalculator;LGameCalculator$Expression;)V" } : Jvm.MethodName)) ∈ lw_all := lw_g (lw_at lw_m9 24 rfl) rfl
theorem q2086 : (Jvm.Cond.classLink "GameCalculator$Parser" (62 : Nat) "GameCalculator$Sum") ∈ lw_all := lw_g (lw_at lw_m9 35 rfl) rfl
theorem q2088 : (Jvm.Cond.methodLink "GameCalculator$Parser" (64 : Nat) ({ cls := "GameCalculator$Sum", name := "<init>", desc := "(LGameCalculator;LGameCalculator$Expression;LGameCalculator$Expression;)V" } : Jvm.MethodName)) ∈ lw_all := lw_g (lw_at lw_m9 37 rfl) rfl
theorem q3020 : (Jvm.Cond.castable "GameCalculator$Parser" "java/lang/Object") ∈ lw_tbl := lw_at lw_m13 9 rfl
theorem in_X7 : ∀ w ∈ wsX70, w ∈ lw_all := lw_in wsX70 [1919, 1921, 1923] (by decide +kernel) (by decide +kernel)
/-! GameCalculator$SyntaxException -/
set_option maxRecDepth 100000
def RX8 : String := "GameCalculator$SyntaxException"
def TX8 : u_T := fun k => match k with
  | 0 => ("java/lang/Throwable", "cause", "Ljava/lang/Throwable;", false)
  | 1 => ("java/lang/Throwable", "stackTrace", "[Ljava/lang/StackTraceElement;", false)
  | 2 => ("java/lang/Throwable", "suppressedExceptions", "Ljava/util/List;", false)
  | 3 => ("java/lang/Throwable", "detailMessage", "Ljava/lang/String;", false)
  | 4 => ("java/lang/Throwable", "backtrace", "Ljava/lang/Object;", false)
  | 5 => ("java/lang/Throwable", "depth", "I", false)
  | _ => ("GameCalculator$SyntaxException", "position", "I", true)
def tyX8 : Nat → FieldType := fun k => match k with
  | 0 => .object "java/lang/Throwable"
  | 1 => .array (.object "java/lang/StackTraceElement")
  | 2 => .object "java/util/List"
  | 3 => .object "java/lang/String"
  | 4 => .object "java/lang/Object"
  | 5 => .int
  | _ => .int
abbrev wsX80 : List Cond := u_ws RX8 TX8 7
theorem nmX8 : ∀ a, a < 7 → ∀ b, b < 7 → a ≠ b → (TX8 a).2.1 ≠ (TX8 b).2.1 := by decide +kernel
theorem tyX8_ok : ∀ k, k < 7 → parseFieldDescriptor (TX8 k).2.2.1 = some (tyX8 k) := by decide +kernel
abbrev cX8_init : ByteArray := prog_13_method_1_code
def yX8_init : MethodName := ⟨RX8, "<init>", "(I)V"⟩
def dkwX8_init_0 : List UInt8 := [42, 18, 1, 183, 0, 3, 42, 27, 181, 0, 9, 177]
abbrev dktX8_init_0 : List UInt8 := dkwX8_init_0 ++ []
theorem dksX8_init_0 : cX8_init.data.toList.drop 0 = dktX8_init_0 := by decide +kernel
theorem dX8_init_0 : decode cX8_init 0 = .ok (.aload_n 0, 1) := dk_42 (dk_at dksX8_init_0 0 rfl rfl)
theorem dX8_init_1 : decode cX8_init 1 = .ok (.ldc 1, 2) := dk_18 1 (dk_at dksX8_init_0 1 rfl rfl)
theorem dX8_init_3 : decode cX8_init 3 = .ok (.invokespecial 3, 3) := dk_183 0 3 (dk_at dksX8_init_0 3 rfl rfl)
theorem dX8_init_6 : decode cX8_init 6 = .ok (.aload_n 0, 1) := dk_42 (dk_at dksX8_init_0 6 rfl rfl)
theorem dX8_init_7 : decode cX8_init 7 = .ok (.iload_n 1, 1) := dk_27 (dk_at dksX8_init_0 7 rfl rfl)
theorem dX8_init_8 : decode cX8_init 8 = .ok (.putfield 9, 3) := dk_181 0 9 (dk_at dksX8_init_0 8 rfl rfl)
theorem dX8_init_11 : decode cX8_init 11 = .ok (.return_, 1) := dk_177 (dk_at dksX8_init_0 11 rfl rfl)
theorem q176 : (Jvm.Cond.initialized "GameCalculator$SyntaxException") ∈ lw_all := lw_g (lw_at lw_m1 45 rfl) rfl
theorem q514 : (Jvm.Cond.selects "GameCalculator$SyntaxException" ({ cls := "java/lang/Throwable", name := "fillInStackTrace", desc := "()Ljava/lang/Throwable;" } : Jvm.MethodName) ({ cls := "java/lang/Throwable", name := "fillInStackTrace", desc := "()Ljava/lang/Throwable;" } : Jvm.MethodName)) ∈ lw_all := lw_g (lw_at lw_m2 143 rfl) rfl
theorem q826 : (Jvm.Cond.selects "GameCalculator$SyntaxException" ({ cls := "java/lang/Object", name := "getClass", desc := "()Ljava/lang/Class;" } : Jvm.MethodName) ({ cls := "java/lang/Object", name := "getClass", desc := "()Ljava/lang/Class;" } : Jvm.MethodName)) ∈ lw_all := lw_g (lw_at lw_m3 215 rfl) rfl
theorem q1397 : (Jvm.Cond.selects "GameCalculator$SyntaxException" ({ cls := "java/lang/Throwable", name := "toString", desc := "()Ljava/lang/String;" } : Jvm.MethodName) ({ cls := "java/lang/Throwable", name := "toString", desc := "()Ljava/lang/String;" } : Jvm.MethodName)) ∈ lw_all := lw_g (lw_at lw_m6 66 rfl) rfl
theorem q1407 : (Jvm.Cond.selects "GameCalculator$SyntaxException" ({ cls := "java/lang/Throwable", name := "getLocalizedMessage", desc := "()Ljava/lang/String;" } : Jvm.MethodName) ({ cls := "java/lang/Throwable", name := "getLocalizedMessage", desc := "()Ljava/lang/String;" } : Jvm.MethodName)) ∈ lw_all := lw_g (lw_at lw_m6 76 rfl) rfl
theorem q1416 : (Jvm.Cond.selects "GameCalculator$SyntaxException" ({ cls := "java/lang/Throwable", name := "getMessage", desc := "()Ljava/lang/String;" } : Jvm.MethodName) ({ cls := "java/lang/Throwable", name := "getMessage", desc := "()Ljava/lang/String;" } : Jvm.MethodName)) ∈ lw_all := lw_g (lw_at lw_m6 85 rfl) rfl
theorem q1975 : (Jvm.Cond.instantiable "GameCalculator$SyntaxException" (7 : Nat)) ∈ lw_all := lw_g (lw_at lw_m8 164 rfl) rfl
theorem q1976 : (Jvm.Cond.castable "GameCalculator$SyntaxException" "GameCalculator$SyntaxException") ∈ lw_tbl := lw_at lw_m8 165 rfl
theorem q1977 : (Jvm.Cond.selects "GameCalculator$SyntaxException" ({ cls := "java/lang/Throwable", name := "fillInStackTrace", desc := "(I)Ljava/lang/Throwable;" } : Jvm.MethodName) ({ cls := "java/lang/Throwable", name := "fillInStackTrace", desc := "(I)Ljava/lang/Throwable;" } : Jvm.MethodName)) ∈ lw_all := lw_g (lw_at lw_m8 166 rfl) rfl
theorem q1978 : (Jvm.Cond.lays "GameCalculator$SyntaxException" "java/lang/Throwable" "cause" "Ljava/lang/Throwable;") ∈ lw_all := lw_g (lw_at lw_m8 167 rfl) rfl
theorem q1979 : (Jvm.Cond.lays "GameCalculator$SyntaxException" "java/lang/Throwable" "stackTrace" "[Ljava/lang/StackTraceElement;") ∈ lw_all := lw_g (lw_at lw_m8 168 rfl) rfl
theorem q1980 : (Jvm.Cond.lays "GameCalculator$SyntaxException" "java/lang/Throwable" "suppressedExceptions" "Ljava/util/List;") ∈ lw_all := lw_g (lw_at lw_m8 169 rfl) rfl
theorem q1981 : (Jvm.Cond.lays "GameCalculator$SyntaxException" "java/lang/Throwable" "detailMessage" "Ljava/lang/String;") ∈ lw_all := lw_g (lw_at lw_m8 170 rfl) rfl
theorem q1982 : (Jvm.Cond.lays "GameCalculator$SyntaxException" "java/lang/Throwable" "backtrace" "Ljava/lang/Object;") ∈ lw_all := lw_g (lw_at lw_m8 171 rfl) rfl
theorem q1984 : (Jvm.Cond.instanceMethod ({ cls := "GameCalculator$SyntaxException", name := "<init>", desc := "(I)V" } : Jvm.MethodName)) ∈ lw_all := lw_g (lw_at lw_m8 173 rfl) rfl
theorem q1985 : (Jvm.Cond.code ({ cls := "GameCalculator$SyntaxException", name := "<init>", desc := "(I)V" } : Jvm.MethodName) prog_13_method_1_code (2 : Nat) (Option.none : Option Jvm.ClassFile.FieldType)) ∈ lw_all := lw_g (lw_at lw_m8 174 rfl) rfl
theorem q1986 : (Jvm.Cond.stringRef "GameCalculator$SyntaxException" (1 : Nat) "not allowed") ∈ lw_tbl := lw_at lw_m8 175 rfl
theorem q1987 : (Jvm.Cond.methodLink "GameCalculator$SyntaxException" (3 : Nat) ({ cls := "java/lang/Exception", name := "<init>", desc := "(Ljava/lang/String;)V" } : Jvm.MethodName)) ∈ lw_all := lw_g (lw_at lw_m8 176 rfl) rfl
theorem q1988 : (Jvm.Cond.fieldLink "GameCalculator$SyntaxException" (9 : Nat) "GameCalculator$SyntaxException" "position" "I") ∈ lw_all := lw_g (lw_at lw_m8 177 rfl) rfl
theorem q1990 : (Jvm.Cond.laysFinal "GameCalculator$SyntaxException" "GameCalculator$SyntaxException" "position" "I") ∈ lw_all := lw_g (lw_at lw_m8 179 rfl) rfl
theorem q1991 : (Jvm.Cond.soleField "GameCalculator$SyntaxException" "position") ∈ lw_all := lw_g (lw_at lw_m8 180 rfl) rfl
theorem q1992 : (Jvm.Cond.lays "GameCalculator$SyntaxException" "java/lang/Throwable" "depth" "I") ∈ lw_all := lw_g (lw_at lw_m8 181 rfl) rfl
theorem q1993 : (Jvm.Cond.superclass "GameCalculator$SyntaxException" "java/lang/Exception") ∈ lw_all := lw_g (lw_at lw_m8 182 rfl) rfl
theorem q3021 : (Jvm.Cond.castable "GameCalculator$SyntaxException" "java/lang/Object") ∈ lw_tbl := lw_at lw_m13 10 rfl
theorem in_X8 : ∀ w ∈ wsX80, w ∈ lw_all := lw_in wsX80 [1978, 1979, 1980, 1981, 1982, 1992, 1990] (by decide +kernel) (by decide +kernel)
/-! GameCalculator$Expression -/
set_option maxRecDepth 100000
def RX9 : String := "GameCalculator$Expression"
abbrev cX9_init : ByteArray := prog_4_method_1_code
def yX9_init : MethodName := ⟨RX9, "<init>", "()V"⟩
theorem dX9_init_0 : decode cX9_init 0 = .ok (.aload_n 0, 1) := by decide +kernel
theorem dX9_init_1 : decode cX9_init 1 = .ok (.invokespecial 1, 3) := by decide +kernel
theorem dX9_init_4 : decode cX9_init 4 = .ok (.return_, 1) := by decide +kernel
theorem q177 : (Jvm.Cond.initialized "GameCalculator$Expression") ∈ lw_all := lw_g (lw_at lw_m1 46 rfl) rfl
theorem q2005 : (Jvm.Cond.instanceMethod ({ cls := "GameCalculator$Expression", name := "<init>", desc := "()V" } : Jvm.MethodName)) ∈ lw_all := lw_g (lw_at lw_m8 194 rfl) rfl
theorem q2006 : (Jvm.Cond.code ({ cls := "GameCalculator$Expression", name := "<init>", desc := "()V" } : Jvm.MethodName) prog_4_method_1_code (1 : Nat) (Option.none : Option Jvm.ClassFile.FieldType)) ∈ lw_all := lw_g (lw_at lw_m8 195 rfl) rfl
theorem q2007 : (Jvm.Cond.methodLink "GameCalculator$Expression" (1 : Nat) ({ cls := "java/lang/Object", name := "<init>", desc := "()V" } : Jvm.MethodName)) ∈ lw_all := lw_g (lw_at lw_m8 196 rfl) rfl
theorem q2105 : (Jvm.Cond.declares ({ cls := "GameCalculator$Expression", name := "evaluate", desc := "()LGameCalculator$Form;" } : Jvm.MethodName)) ∈ lw_tbl := lw_at lw_m9 54 rfl
theorem q2106 : (Jvm.Cond.sameMethod "GameCalculator$Expression" "GameCalculator$Expression" "evaluate" "()LGameCalculator$Form;") ∈ lw_all := lw_g (lw_at lw_m9 55 rfl) rfl
/-! GameCalculator$Known -/
set_option maxRecDepth 100000
def RX10 : String := "GameCalculator$Known"
def TX10 : u_T := fun k => match k with
  | _ => ("GameCalculator$Known", "maker", "LGameCalculator$Maker;", true)
def tyX10 : Nat → FieldType := fun k => match k with
  | _ => .object "GameCalculator$Maker"
abbrev wsX100 : List Cond := u_ws RX10 TX10 1
theorem nmX10 : ∀ a, a < 1 → ∀ b, b < 1 → a ≠ b → (TX10 a).2.1 ≠ (TX10 b).2.1 := by decide +kernel
theorem tyX10_ok : ∀ k, k < 1 → parseFieldDescriptor (TX10 k).2.2.1 = some (tyX10 k) := by decide +kernel
abbrev cX10_init : ByteArray := prog_7_method_1_code
def yX10_init : MethodName := ⟨RX10, "<init>", "(LGameCalculator$Maker;)V"⟩
def dkwX10_init_0 : List UInt8 := [42, 183, 0, 1, 42, 43, 181, 0, 7, 177]
abbrev dktX10_init_0 : List UInt8 := dkwX10_init_0 ++ []
theorem dksX10_init_0 : cX10_init.data.toList.drop 0 = dktX10_init_0 := by decide +kernel
theorem dX10_init_0 : decode cX10_init 0 = .ok (.aload_n 0, 1) := dk_42 (dk_at dksX10_init_0 0 rfl rfl)
theorem dX10_init_1 : decode cX10_init 1 = .ok (.invokespecial 1, 3) := dk_183 0 1 (dk_at dksX10_init_0 1 rfl rfl)
theorem dX10_init_4 : decode cX10_init 4 = .ok (.aload_n 0, 1) := dk_42 (dk_at dksX10_init_0 4 rfl rfl)
theorem dX10_init_5 : decode cX10_init 5 = .ok (.aload_n 1, 1) := dk_43 (dk_at dksX10_init_0 5 rfl rfl)
theorem dX10_init_6 : decode cX10_init 6 = .ok (.putfield 7, 3) := dk_181 0 7 (dk_at dksX10_init_0 6 rfl rfl)
theorem dX10_init_9 : decode cX10_init 9 = .ok (.return_, 1) := dk_177 (dk_at dksX10_init_0 9 rfl rfl)
abbrev cX10_evaluate : ByteArray := prog_7_method_2_code
def yX10_evaluate : MethodName := ⟨RX10, "evaluate", "()LGameCalculator$Form;"⟩
def dkwX10_evaluate_0 : List UInt8 := [42, 180, 0, 7, 185, 0, 13, 1, 0, 176]
abbrev dktX10_evaluate_0 : List UInt8 := dkwX10_evaluate_0 ++ []
theorem dksX10_evaluate_0 : cX10_evaluate.data.toList.drop 0 = dktX10_evaluate_0 := by decide +kernel
theorem dX10_evaluate_0 : decode cX10_evaluate 0 = .ok (.aload_n 0, 1) := dk_42 (dk_at dksX10_evaluate_0 0 rfl rfl)
theorem dX10_evaluate_1 : decode cX10_evaluate 1 = .ok (.getfield 7, 3) := dk_180 0 7 (dk_at dksX10_evaluate_0 1 rfl rfl)
theorem dX10_evaluate_4 : decode cX10_evaluate 4 = .ok (.invokeinterface 13 1, 5) := by decide +kernel
theorem dX10_evaluate_9 : decode cX10_evaluate 9 = .ok (.areturn, 1) := dk_176 (dk_at dksX10_evaluate_0 9 rfl rfl)
theorem q178 : (Jvm.Cond.initialized "GameCalculator$Known") ∈ lw_all := lw_g (lw_at lw_m1 47 rfl) rfl
theorem q821 : (Jvm.Cond.selects "GameCalculator$Known" ({ cls := "java/lang/Object", name := "getClass", desc := "()Ljava/lang/Class;" } : Jvm.MethodName) ({ cls := "java/lang/Object", name := "getClass", desc := "()Ljava/lang/Class;" } : Jvm.MethodName)) ∈ lw_all := lw_g (lw_at lw_m3 210 rfl) rfl
theorem q1995 : (Jvm.Cond.instantiable "GameCalculator$Known" (1 : Nat)) ∈ lw_all := lw_g (lw_at lw_m8 184 rfl) rfl
theorem q2002 : (Jvm.Cond.instanceMethod ({ cls := "GameCalculator$Known", name := "<init>", desc := "(LGameCalculator$Maker;)V" } : Jvm.MethodName)) ∈ lw_all := lw_g (lw_at lw_m8 191 rfl) rfl
theorem q2003 : (Jvm.Cond.code ({ cls := "GameCalculator$Known", name := "<init>", desc := "(LGameCalculator$Maker;)V" } : Jvm.MethodName) prog_7_method_1_code (2 : Nat) (Option.none : Option Jvm.ClassFile.FieldType)) ∈ lw_all := lw_g (lw_at lw_m8 192 rfl) rfl
theorem q2004 : (Jvm.Cond.methodLinkNest "GameCalculator$Known" (1 : Nat) ({ cls := "GameCalculator$Expression", name := "<init>", desc := "()V" } : Jvm.MethodName) "GameCalculator") ∈ lw_tbl := lw_at lw_m8 193 rfl
theorem q2008 : (Jvm.Cond.fieldLink "GameCalculator$Known" (7 : Nat) "GameCalculator$Known" "maker" "LGameCalculator$Maker;") ∈ lw_all := lw_g (lw_at lw_m8 197 rfl) rfl
theorem q2009 : (Jvm.Cond.laysFinal "GameCalculator$Known" "GameCalculator$Known" "maker" "LGameCalculator$Maker;") ∈ lw_all := lw_g (lw_at lw_m8 198 rfl) rfl
theorem q2010 : (Jvm.Cond.soleField "GameCalculator$Known" "maker") ∈ lw_all := lw_g (lw_at lw_m8 199 rfl) rfl
theorem q2011 : (Jvm.Cond.superclass "GameCalculator$Known" "GameCalculator$Expression") ∈ lw_all := lw_g (lw_at lw_m8 200 rfl) rfl
theorem q2122 : (Jvm.Cond.instanceMethod ({ cls := "GameCalculator$Known", name := "evaluate", desc := "()LGameCalculator$Form;" } : Jvm.MethodName)) ∈ lw_all := lw_g (lw_at lw_m9 71 rfl) rfl
theorem q2123 : (Jvm.Cond.code ({ cls := "GameCalculator$Known", name := "evaluate", desc := "()LGameCalculator$Form;" } : Jvm.MethodName) prog_7_method_2_code (1 : Nat) (Option.some (Jvm.ClassFile.FieldType.object "GameCalculator$Form"))) ∈ lw_all := lw_g (lw_at lw_m9 72 rfl) rfl
theorem q2124 : (Jvm.Cond.interfaceEntry "GameCalculator$Known" (13 : Nat)) ∈ lw_tbl := lw_at lw_m9 73 rfl
theorem q2125 : (Jvm.Cond.methodLink "GameCalculator$Known" (13 : Nat) ({ cls := "GameCalculator$Maker", name := "make", desc := "()LGameCalculator$Form;" } : Jvm.MethodName)) ∈ lw_all := lw_g (lw_at lw_m9 74 rfl) rfl
theorem q2137 : (Jvm.Cond.selects "GameCalculator$Known" ({ cls := "GameCalculator$Expression", name := "evaluate", desc := "()LGameCalculator$Form;" } : Jvm.MethodName) ({ cls := "GameCalculator$Known", name := "evaluate", desc := "()LGameCalculator$Form;" } : Jvm.MethodName)) ∈ lw_all := lw_g (lw_at lw_m9 86 rfl) rfl
theorem q2993 : (Jvm.Cond.castable "GameCalculator$Known" "GameCalculator$Expression") ∈ lw_tbl := lw_at lw_m12 222 rfl
theorem q3022 : (Jvm.Cond.castable "GameCalculator$Known" "java/lang/Object") ∈ lw_tbl := lw_at lw_m13 11 rfl
theorem in_X10 : ∀ w ∈ wsX100, w ∈ lw_all := lw_in wsX100 [2009] (by decide +kernel) (by decide +kernel)
/-! GameCalculator$Braces -/
set_option maxRecDepth 100000
def RX11 : String := "GameCalculator$Braces"
def TX11 : u_T := fun k => match k with
  | 0 => ("GameCalculator$Braces", "left", "Ljava/util/List;", true)
  | 1 => ("GameCalculator$Braces", "right", "Ljava/util/List;", true)
  | _ => ("GameCalculator$Braces", "this$0", "LGameCalculator;", true)
def tyX11 : Nat → FieldType := fun k => match k with
  | 0 => .object "java/util/List"
  | 1 => .object "java/util/List"
  | _ => .object "GameCalculator"
abbrev wsX110 : List Cond := u_ws RX11 TX11 3
theorem nmX11 : ∀ a, a < 3 → ∀ b, b < 3 → a ≠ b → (TX11 a).2.1 ≠ (TX11 b).2.1 := by decide +kernel
theorem tyX11_ok : ∀ k, k < 3 → parseFieldDescriptor (TX11 k).2.2.1 = some (tyX11 k) := by decide +kernel
abbrev cX11_init : ByteArray := prog_3_method_1_code
def yX11_init : MethodName := ⟨RX11, "<init>", "(LGameCalculator;Ljava/util/List;Ljava/util/List;)V"⟩
def dkwX11_init_0 : List UInt8 := [42, 43, 181, 0, 1, 42, 183, 0, 7, 42, 44, 181, 0, 13, 42, 45, 181, 0, 17, 177]
abbrev dktX11_init_0 : List UInt8 := dkwX11_init_0 ++ []
theorem dksX11_init_0 : cX11_init.data.toList.drop 0 = dktX11_init_0 := by decide +kernel
theorem dX11_init_0 : decode cX11_init 0 = .ok (.aload_n 0, 1) := dk_42 (dk_at dksX11_init_0 0 rfl rfl)
theorem dX11_init_1 : decode cX11_init 1 = .ok (.aload_n 1, 1) := dk_43 (dk_at dksX11_init_0 1 rfl rfl)
theorem dX11_init_2 : decode cX11_init 2 = .ok (.putfield 1, 3) := dk_181 0 1 (dk_at dksX11_init_0 2 rfl rfl)
theorem dX11_init_5 : decode cX11_init 5 = .ok (.aload_n 0, 1) := dk_42 (dk_at dksX11_init_0 5 rfl rfl)
theorem dX11_init_6 : decode cX11_init 6 = .ok (.invokespecial 7, 3) := dk_183 0 7 (dk_at dksX11_init_0 6 rfl rfl)
theorem dX11_init_9 : decode cX11_init 9 = .ok (.aload_n 0, 1) := dk_42 (dk_at dksX11_init_0 9 rfl rfl)
theorem dX11_init_10 : decode cX11_init 10 = .ok (.aload_n 2, 1) := dk_44 (dk_at dksX11_init_0 10 rfl rfl)
theorem dX11_init_11 : decode cX11_init 11 = .ok (.putfield 13, 3) := dk_181 0 13 (dk_at dksX11_init_0 11 rfl rfl)
theorem dX11_init_14 : decode cX11_init 14 = .ok (.aload_n 0, 1) := dk_42 (dk_at dksX11_init_0 14 rfl rfl)
theorem dX11_init_15 : decode cX11_init 15 = .ok (.aload_n 3, 1) := dk_45 (dk_at dksX11_init_0 15 rfl rfl)
theorem dX11_init_16 : decode cX11_init 16 = .ok (.putfield 17, 3) := dk_181 0 17 (dk_at dksX11_init_0 16 rfl rfl)
theorem dX11_init_19 : decode cX11_init 19 = .ok (.return_, 1) := dk_177 (dk_at dksX11_init_0 19 rfl rfl)
abbrev cX11_evaluate : ByteArray := prog_3_method_3_code
def yX11_evaluate : MethodName := ⟨RX11, "evaluate", "()LGameCalculator$Form;"⟩
def dkwX11_evaluate_1 : List UInt8 := [182, 0, 45, 176]
abbrev dktX11_evaluate_1 : List UInt8 := dkwX11_evaluate_1 ++ []
def dkwX11_evaluate_0 : List UInt8 := [42, 42, 180, 0, 13, 182, 0, 41, 76, 42, 180, 0, 1, 43, 42, 42, 180, 0, 17, 182, 0, 41]
abbrev dktX11_evaluate_0 : List UInt8 := dkwX11_evaluate_0 ++ dktX11_evaluate_1
theorem dksX11_evaluate_0 : cX11_evaluate.data.toList.drop 0 = dktX11_evaluate_0 := by decide +kernel
theorem dksX11_evaluate_1 : cX11_evaluate.data.toList.drop 22 = dktX11_evaluate_1 := dk_seg dksX11_evaluate_0 22 rfl rfl
theorem dX11_evaluate_0 : decode cX11_evaluate 0 = .ok (.aload_n 0, 1) := dk_42 (dk_at dksX11_evaluate_0 0 rfl rfl)
theorem dX11_evaluate_1 : decode cX11_evaluate 1 = .ok (.aload_n 0, 1) := dk_42 (dk_at dksX11_evaluate_0 1 rfl rfl)
theorem dX11_evaluate_2 : decode cX11_evaluate 2 = .ok (.getfield 13, 3) := dk_180 0 13 (dk_at dksX11_evaluate_0 2 rfl rfl)
theorem dX11_evaluate_5 : decode cX11_evaluate 5 = .ok (.invokevirtual 41, 3) := dk_182 0 41 (dk_at dksX11_evaluate_0 5 rfl rfl)
theorem dX11_evaluate_8 : decode cX11_evaluate 8 = .ok (.astore_n 1, 1) := dk_76 (dk_at dksX11_evaluate_0 8 rfl rfl)
theorem dX11_evaluate_9 : decode cX11_evaluate 9 = .ok (.aload_n 0, 1) := dk_42 (dk_at dksX11_evaluate_0 9 rfl rfl)
theorem dX11_evaluate_10 : decode cX11_evaluate 10 = .ok (.getfield 1, 3) := dk_180 0 1 (dk_at dksX11_evaluate_0 10 rfl rfl)
theorem dX11_evaluate_13 : decode cX11_evaluate 13 = .ok (.aload_n 1, 1) := dk_43 (dk_at dksX11_evaluate_0 13 rfl rfl)
theorem dX11_evaluate_14 : decode cX11_evaluate 14 = .ok (.aload_n 0, 1) := dk_42 (dk_at dksX11_evaluate_0 14 rfl rfl)
theorem dX11_evaluate_15 : decode cX11_evaluate 15 = .ok (.aload_n 0, 1) := dk_42 (dk_at dksX11_evaluate_0 15 rfl rfl)
theorem dX11_evaluate_16 : decode cX11_evaluate 16 = .ok (.getfield 17, 3) := dk_180 0 17 (dk_at dksX11_evaluate_0 16 rfl rfl)
theorem dX11_evaluate_19 : decode cX11_evaluate 19 = .ok (.invokevirtual 41, 3) := dk_182 0 41 (dk_at dksX11_evaluate_0 19 rfl rfl)
theorem dX11_evaluate_22 : decode cX11_evaluate 22 = .ok (.invokevirtual 45, 3) := dk_182 0 45 (dk_at dksX11_evaluate_1 0 rfl rfl)
theorem dX11_evaluate_25 : decode cX11_evaluate 25 = .ok (.areturn, 1) := dk_176 (dk_at dksX11_evaluate_1 3 rfl rfl)
abbrev cX11_forms : ByteArray := prog_3_method_2_code
def yX11_forms : MethodName := ⟨RX11, "forms", "(Ljava/util/List;)Ljava/util/List;"⟩
def dkwX11_forms_2 : List UInt8 := [176]
abbrev dktX11_forms_2 : List UInt8 := dkwX11_forms_2 ++ []
def dkwX11_forms_1 : List UInt8 := [185, 0, 29, 2, 0, 192, 0, 8, 182, 0, 33, 185, 0, 37, 2, 0, 87, 132, 3, 1, 167, 255, 223, 44]
abbrev dktX11_forms_1 : List UInt8 := dkwX11_forms_1 ++ dktX11_forms_2
def dkwX11_forms_0 : List UInt8 := [187, 0, 20, 89, 183, 0, 22, 77, 3, 62, 29, 43, 185, 0, 23, 1, 0, 162, 0, 29, 44, 43, 29]
abbrev dktX11_forms_0 : List UInt8 := dkwX11_forms_0 ++ dktX11_forms_1
theorem dksX11_forms_0 : cX11_forms.data.toList.drop 0 = dktX11_forms_0 := by decide +kernel
theorem dksX11_forms_1 : cX11_forms.data.toList.drop 23 = dktX11_forms_1 := dk_seg dksX11_forms_0 23 rfl rfl
theorem dksX11_forms_2 : cX11_forms.data.toList.drop 47 = dktX11_forms_2 := dk_seg dksX11_forms_1 24 rfl rfl
theorem dX11_forms_0 : decode cX11_forms 0 = .ok (.new 20, 3) := dk_187 0 20 (dk_at dksX11_forms_0 0 rfl rfl)
theorem dX11_forms_3 : decode cX11_forms 3 = .ok (.dup, 1) := dk_89 (dk_at dksX11_forms_0 3 rfl rfl)
theorem dX11_forms_4 : decode cX11_forms 4 = .ok (.invokespecial 22, 3) := dk_183 0 22 (dk_at dksX11_forms_0 4 rfl rfl)
theorem dX11_forms_7 : decode cX11_forms 7 = .ok (.astore_n 2, 1) := dk_77 (dk_at dksX11_forms_0 7 rfl rfl)
theorem dX11_forms_8 : decode cX11_forms 8 = .ok (.iconst 0, 1) := dk_3 (dk_at dksX11_forms_0 8 rfl rfl)
theorem dX11_forms_9 : decode cX11_forms 9 = .ok (.istore_n 3, 1) := dk_62 (dk_at dksX11_forms_0 9 rfl rfl)
theorem dX11_forms_10 : decode cX11_forms 10 = .ok (.iload_n 3, 1) := dk_29 (dk_at dksX11_forms_0 10 rfl rfl)
theorem dX11_forms_11 : decode cX11_forms 11 = .ok (.aload_n 1, 1) := dk_43 (dk_at dksX11_forms_0 11 rfl rfl)
theorem dX11_forms_12 : decode cX11_forms 12 = .ok (.invokeinterface 23 1, 5) := by decide +kernel
theorem dX11_forms_17 : decode cX11_forms 17 = .ok (.if_icmp .ge 29, 3) := dk_162 0 29 (dk_at dksX11_forms_0 17 rfl rfl)
theorem dX11_forms_20 : decode cX11_forms 20 = .ok (.aload_n 2, 1) := dk_44 (dk_at dksX11_forms_0 20 rfl rfl)
theorem dX11_forms_21 : decode cX11_forms 21 = .ok (.aload_n 1, 1) := dk_43 (dk_at dksX11_forms_0 21 rfl rfl)
theorem dX11_forms_22 : decode cX11_forms 22 = .ok (.iload_n 3, 1) := dk_29 (dk_at dksX11_forms_0 22 rfl rfl)
theorem dX11_forms_23 : decode cX11_forms 23 = .ok (.invokeinterface 29 2, 5) := by decide +kernel
theorem dX11_forms_28 : decode cX11_forms 28 = .ok (.checkcast 8, 3) := dk_192 0 8 (dk_at dksX11_forms_1 5 rfl rfl)
theorem dX11_forms_31 : decode cX11_forms 31 = .ok (.invokevirtual 33, 3) := dk_182 0 33 (dk_at dksX11_forms_1 8 rfl rfl)
theorem dX11_forms_34 : decode cX11_forms 34 = .ok (.invokeinterface 37 2, 5) := by decide +kernel
theorem dX11_forms_39 : decode cX11_forms 39 = .ok (.pop, 1) := dk_87 (dk_at dksX11_forms_1 16 rfl rfl)
theorem dX11_forms_40 : decode cX11_forms 40 = .ok (.iinc 3 1, 3) := dk_132 3 1 (dk_at dksX11_forms_1 17 rfl rfl)
theorem dX11_forms_43 : decode cX11_forms 43 = .ok (.goto (-33), 3) := dk_167 255 223 (dk_at dksX11_forms_1 20 rfl rfl)
theorem dX11_forms_46 : decode cX11_forms 46 = .ok (.aload_n 2, 1) := dk_44 (dk_at dksX11_forms_1 23 rfl rfl)
theorem dX11_forms_47 : decode cX11_forms 47 = .ok (.areturn, 1) := dk_176 (dk_at dksX11_forms_2 0 rfl rfl)
theorem q179 : (Jvm.Cond.initialized "GameCalculator$Braces") ∈ lw_all := lw_g (lw_at lw_m1 48 rfl) rfl
theorem q818 : (Jvm.Cond.selects "GameCalculator$Braces" ({ cls := "java/lang/Object", name := "getClass", desc := "()Ljava/lang/Class;" } : Jvm.MethodName) ({ cls := "java/lang/Object", name := "getClass", desc := "()Ljava/lang/Class;" } : Jvm.MethodName)) ∈ lw_all := lw_g (lw_at lw_m3 207 rfl) rfl
theorem q2058 : (Jvm.Cond.instantiable "GameCalculator$Braces" (3 : Nat)) ∈ lw_all := lw_g (lw_at lw_m9 7 rfl) rfl
theorem q2060 : (Jvm.Cond.instanceMethod ({ cls := "GameCalculator$Braces", name := "<init>", desc := "(LGameCalculator;Ljava/util/List;Ljava/util/List;)V" } : Jvm.MethodName)) ∈ lw_all := lw_g (lw_at lw_m9 9 rfl) rfl
theorem q2061 : (Jvm.Cond.code ({ cls := "GameCalculator$Braces", name := "<init>", desc := "(LGameCalculator;Ljava/util/List;Ljava/util/List;)V" } : Jvm.MethodName) prog_3_method_1_code (4 : Nat) (Option.none : Option Jvm.ClassFile.FieldType)) ∈ lw_all := lw_g (lw_at lw_m9 10 rfl) rfl
theorem q2062 : (Jvm.Cond.methodLinkNest "GameCalculator$Braces" (7 : Nat) ({ cls := "GameCalculator$Expression", name := "<init>", desc := "()V" } : Jvm.MethodName) "GameCalculator") ∈ lw_tbl := lw_at lw_m9 11 rfl
theorem q2063 : (Jvm.Cond.fieldLink "GameCalculator$Braces" (13 : Nat) "GameCalculator$Braces" "left" "Ljava/util/List;") ∈ lw_all := lw_g (lw_at lw_m9 12 rfl) rfl
theorem q2064 : (Jvm.Cond.fieldLink "GameCalculator$Braces" (17 : Nat) "GameCalculator$Braces" "right" "Ljava/util/List;") ∈ lw_all := lw_g (lw_at lw_m9 13 rfl) rfl
theorem q2065 : (Jvm.Cond.fieldLink "GameCalculator$Braces" (1 : Nat) "GameCalculator$Braces" "this$0" "LGameCalculator;") ∈ lw_all := lw_g (lw_at lw_m9 14 rfl) rfl
theorem q2066 : (Jvm.Cond.laysFinal "GameCalculator$Braces" "GameCalculator$Braces" "left" "Ljava/util/List;") ∈ lw_all := lw_g (lw_at lw_m9 15 rfl) rfl
theorem q2067 : (Jvm.Cond.soleField "GameCalculator$Braces" "left") ∈ lw_all := lw_g (lw_at lw_m9 16 rfl) rfl
theorem q2068 : (Jvm.Cond.laysFinal "GameCalculator$Braces" "GameCalculator$Braces" "right" "Ljava/util/List;") ∈ lw_all := lw_g (lw_at lw_m9 17 rfl) rfl
theorem q2069 : (Jvm.Cond.soleField "GameCalculator$Braces" "right") ∈ lw_all := lw_g (lw_at lw_m9 18 rfl) rfl
theorem q2070 : (Jvm.Cond.laysFinal "GameCalculator$Braces" "GameCalculator$Braces" "this$0" "LGameCalculator;") ∈ lw_all := lw_g (lw_at lw_m9 19 rfl) rfl
theorem q2071 : (Jvm.Cond.soleField "GameCalculator$Braces" "this$0") ∈ lw_all := lw_g (lw_at lw_m9 20 rfl) rfl
theorem q2072 : (Jvm.Cond.superclass "GameCalculator$Braces" "GameCalculator$Expression") ∈ lw_all := lw_g (lw_at lw_m9 21 rfl) rfl
theorem q2107 : (Jvm.Cond.selects "GameCalculator$Braces" ({ cls := "GameCalculator$Expression", name := "evaluate", desc := "()LGameCalculator$Form;" } : Jvm.MethodName) ({ cls := "GameCalculator$Braces", name := "evaluate", desc := "()LGameCalculator$Form;" } : Jvm.MethodName)) ∈ lw_all := lw_g (lw_at lw_m9 56 rfl) rfl
theorem q2108 : (Jvm.Cond.instanceMethod ({ cls := "GameCalculator$Braces", name := "evaluate", desc := "()LGameCalculator$Form;" } : Jvm.MethodName)) ∈ lw_all := lw_g (lw_at lw_m9 57 rfl) rfl
theorem q2109 : (Jvm.Cond.code ({ cls := "GameCalculator$Braces", name := "evaluate", desc := "()LGameCalculator$Form;" } : Jvm.MethodName) prog_3_method_3_code (2 : Nat) (Option.some (Jvm.ClassFile.FieldType.object "GameCalculator$Form"))) ∈ lw_all := lw_g (lw_at lw_m9 58 rfl) rfl
theorem q2110 : (Jvm.Cond.methodLink "GameCalculator$Braces" (41 : Nat) ({ cls := "GameCalculator$Braces", name := "forms", desc := "(Ljava/util/List;)Ljava/util/List;" } : Jvm.MethodName)) ∈ lw_all := lw_g (lw_at lw_m9 59 rfl) rfl
theorem q2111 : (Jvm.Cond.privateMethod ({ cls := "GameCalculator$Braces", name := "forms", desc := "(Ljava/util/List;)Ljava/util/List;" } : Jvm.MethodName)) ∈ lw_tbl := lw_at lw_m9 60 rfl
theorem q2112 : (Jvm.Cond.instanceMethod ({ cls := "GameCalculator$Braces", name := "forms", desc := "(Ljava/util/List;)Ljava/util/List;" } : Jvm.MethodName)) ∈ lw_all := lw_g (lw_at lw_m9 61 rfl) rfl
theorem q2113 : (Jvm.Cond.code ({ cls := "GameCalculator$Braces", name := "forms", desc := "(Ljava/util/List;)Ljava/util/List;" } : Jvm.MethodName) prog_3_method_2_code (4 : Nat) (Option.some (Jvm.ClassFile.FieldType.object "java/util/List"))) ∈ lw_all := lw_g (lw_at lw_m9 62 rfl) rfl
theorem q2114 : (Jvm.Cond.classLink "GameCalculator$Braces" (20 : Nat) "java/util/ArrayList") ∈ lw_all := lw_g (lw_at lw_m9 63 rfl) rfl
theorem q2115 : (Jvm.Cond.methodLink "GameCalculator$Braces" (22 : Nat) ({ cls := "java/util/ArrayList", name := "<init>", desc := "()V" } : Jvm.MethodName)) ∈ lw_all := lw_g (lw_at lw_m9 64 rfl) rfl
theorem q2116 : (Jvm.Cond.interfaceEntry "GameCalculator$Braces" (23 : Nat)) ∈ lw_tbl := lw_at lw_m9 65 rfl
theorem q2117 : (Jvm.Cond.methodLink "GameCalculator$Braces" (23 : Nat) ({ cls := "java/util/List", name := "size", desc := "()I" } : Jvm.MethodName)) ∈ lw_all := lw_g (lw_at lw_m9 66 rfl) rfl
theorem q2118 : (Jvm.Cond.interfaceEntry "GameCalculator$Braces" (29 : Nat)) ∈ lw_tbl := lw_at lw_m9 67 rfl
theorem q2119 : (Jvm.Cond.methodLink "GameCalculator$Braces" (29 : Nat) ({ cls := "java/util/List", name := "get", desc := "(I)Ljava/lang/Object;" } : Jvm.MethodName)) ∈ lw_all := lw_g (lw_at lw_m9 68 rfl) rfl
theorem q2120 : (Jvm.Cond.classLink "GameCalculator$Braces" (8 : Nat) "GameCalculator$Expression") ∈ lw_all := lw_g (lw_at lw_m9 69 rfl) rfl
theorem q2121 : (Jvm.Cond.methodLink "GameCalculator$Braces" (33 : Nat) ({ cls := "GameCalculator$Expression", name := "evaluate", desc := "()LGameCalculator$Form;" } : Jvm.MethodName)) ∈ lw_all := lw_g (lw_at lw_m9 70 rfl) rfl
theorem q2134 : (Jvm.Cond.interfaceEntry "GameCalculator$Braces" (37 : Nat)) ∈ lw_tbl := lw_at lw_m9 83 rfl
theorem q2135 : (Jvm.Cond.methodLink "GameCalculator$Braces" (37 : Nat) ({ cls := "java/util/List", name := "add", desc := "(Ljava/lang/Object;)Z" } : Jvm.MethodName)) ∈ lw_all := lw_g (lw_at lw_m9 84 rfl) rfl
theorem q2136 : (Jvm.Cond.methodLinkNest "GameCalculator$Braces" (45 : Nat) ({ cls := "GameCalculator", name := "made", desc := "(Ljava/util/List;Ljava/util/List;)LGameCalculator$Form;" } : Jvm.MethodName) "GameCalculator") ∈ lw_tbl := lw_at lw_m9 85 rfl
theorem q2992 : (Jvm.Cond.castable "GameCalculator$Braces" "GameCalculator$Expression") ∈ lw_tbl := lw_at lw_m12 221 rfl
theorem q3023 : (Jvm.Cond.castable "GameCalculator$Braces" "java/lang/Object") ∈ lw_tbl := lw_at lw_m13 12 rfl
theorem in_X11 : ∀ w ∈ wsX110, w ∈ lw_all := lw_in wsX110 [2066, 2068, 2070] (by decide +kernel) (by decide +kernel)
/-! GameCalculator$Negative -/
set_option maxRecDepth 100000
def RX12 : String := "GameCalculator$Negative"
def TX12 : u_T := fun k => match k with
  | 0 => ("GameCalculator$Negative", "of", "LGameCalculator$Expression;", true)
  | _ => ("GameCalculator$Negative", "this$0", "LGameCalculator;", true)
def tyX12 : Nat → FieldType := fun k => match k with
  | 0 => .object "GameCalculator$Expression"
  | _ => .object "GameCalculator"
abbrev wsX120 : List Cond := u_ws RX12 TX12 2
theorem nmX12 : ∀ a, a < 2 → ∀ b, b < 2 → a ≠ b → (TX12 a).2.1 ≠ (TX12 b).2.1 := by decide +kernel
theorem tyX12_ok : ∀ k, k < 2 → parseFieldDescriptor (TX12 k).2.2.1 = some (tyX12 k) := by decide +kernel
abbrev cX12_init : ByteArray := prog_10_method_1_code
def yX12_init : MethodName := ⟨RX12, "<init>", "(LGameCalculator;LGameCalculator$Expression;)V"⟩
def dkwX12_init_0 : List UInt8 := [42, 43, 181, 0, 1, 42, 183, 0, 7, 42, 44, 181, 0, 13, 177]
abbrev dktX12_init_0 : List UInt8 := dkwX12_init_0 ++ []
theorem dksX12_init_0 : cX12_init.data.toList.drop 0 = dktX12_init_0 := by decide +kernel
theorem dX12_init_0 : decode cX12_init 0 = .ok (.aload_n 0, 1) := dk_42 (dk_at dksX12_init_0 0 rfl rfl)
theorem dX12_init_1 : decode cX12_init 1 = .ok (.aload_n 1, 1) := dk_43 (dk_at dksX12_init_0 1 rfl rfl)
theorem dX12_init_2 : decode cX12_init 2 = .ok (.putfield 1, 3) := dk_181 0 1 (dk_at dksX12_init_0 2 rfl rfl)
theorem dX12_init_5 : decode cX12_init 5 = .ok (.aload_n 0, 1) := dk_42 (dk_at dksX12_init_0 5 rfl rfl)
theorem dX12_init_6 : decode cX12_init 6 = .ok (.invokespecial 7, 3) := dk_183 0 7 (dk_at dksX12_init_0 6 rfl rfl)
theorem dX12_init_9 : decode cX12_init 9 = .ok (.aload_n 0, 1) := dk_42 (dk_at dksX12_init_0 9 rfl rfl)
theorem dX12_init_10 : decode cX12_init 10 = .ok (.aload_n 2, 1) := dk_44 (dk_at dksX12_init_0 10 rfl rfl)
theorem dX12_init_11 : decode cX12_init 11 = .ok (.putfield 13, 3) := dk_181 0 13 (dk_at dksX12_init_0 11 rfl rfl)
theorem dX12_init_14 : decode cX12_init 14 = .ok (.return_, 1) := dk_177 (dk_at dksX12_init_0 14 rfl rfl)
abbrev cX12_evaluate : ByteArray := prog_10_method_2_code
def yX12_evaluate : MethodName := ⟨RX12, "evaluate", "()LGameCalculator$Form;"⟩
def dkwX12_evaluate_0 : List UInt8 := [42, 180, 0, 1, 42, 180, 0, 13, 182, 0, 17, 182, 0, 21, 176]
abbrev dktX12_evaluate_0 : List UInt8 := dkwX12_evaluate_0 ++ []
theorem dksX12_evaluate_0 : cX12_evaluate.data.toList.drop 0 = dktX12_evaluate_0 := by decide +kernel
theorem dX12_evaluate_0 : decode cX12_evaluate 0 = .ok (.aload_n 0, 1) := dk_42 (dk_at dksX12_evaluate_0 0 rfl rfl)
theorem dX12_evaluate_1 : decode cX12_evaluate 1 = .ok (.getfield 1, 3) := dk_180 0 1 (dk_at dksX12_evaluate_0 1 rfl rfl)
theorem dX12_evaluate_4 : decode cX12_evaluate 4 = .ok (.aload_n 0, 1) := dk_42 (dk_at dksX12_evaluate_0 4 rfl rfl)
theorem dX12_evaluate_5 : decode cX12_evaluate 5 = .ok (.getfield 13, 3) := dk_180 0 13 (dk_at dksX12_evaluate_0 5 rfl rfl)
theorem dX12_evaluate_8 : decode cX12_evaluate 8 = .ok (.invokevirtual 17, 3) := dk_182 0 17 (dk_at dksX12_evaluate_0 8 rfl rfl)
theorem dX12_evaluate_11 : decode cX12_evaluate 11 = .ok (.invokevirtual 21, 3) := dk_182 0 21 (dk_at dksX12_evaluate_0 11 rfl rfl)
theorem dX12_evaluate_14 : decode cX12_evaluate 14 = .ok (.areturn, 1) := dk_176 (dk_at dksX12_evaluate_0 14 rfl rfl)
theorem q180 : (Jvm.Cond.initialized "GameCalculator$Negative") ∈ lw_all := lw_g (lw_at lw_m1 49 rfl) rfl
theorem q823 : (Jvm.Cond.selects "GameCalculator$Negative" ({ cls := "java/lang/Object", name := "getClass", desc := "()Ljava/lang/Class;" } : Jvm.MethodName) ({ cls := "java/lang/Object", name := "getClass", desc := "()Ljava/lang/Class;" } : Jvm.MethodName)) ∈ lw_all := lw_g (lw_at lw_m3 212 rfl) rfl
theorem q2074 : (Jvm.Cond.instantiable "GameCalculator$Negative" (2 : Nat)) ∈ lw_all := lw_g (lw_at lw_m9 23 rfl) rfl
theorem q2076 : (Jvm.Cond.instanceMethod ({ cls := "GameCalculator$Negative", name := "<init>", desc := "(LGameCalculator;LGameCalculator$Expression;)V" } : Jvm.MethodName)) ∈ lw_all := lw_g (lw_at lw_m9 25 rfl) rfl
theorem q2077 : (Jvm.Cond.code ({ cls := "GameCalculator$Negative", name := "<init>", desc := "(LGameCalculator;LGameCalculator$Expression;)V" } : Jvm.MethodName) prog_10_method_1_code (3 : Nat) (Option.none : Option Jvm.ClassFile.FieldType)) ∈ lw_all := lw_g (lw_at lw_m9 26 rfl) rfl
theorem q2078 : (Jvm.Cond.methodLinkNest "GameCalculator$Negative" (7 : Nat) ({ cls := "GameCalculator$Expression", name := "<init>", desc := "()V" } : Jvm.MethodName) "GameCalculator") ∈ lw_tbl := lw_at lw_m9 27 rfl
theorem q2079 : (Jvm.Cond.fieldLink "GameCalculator$Negative" (13 : Nat) "GameCalculator$Negative" "of" "LGameCalculator$Expression;") ∈ lw_all := lw_g (lw_at lw_m9 28 rfl) rfl
theorem q2080 : (Jvm.Cond.fieldLink "GameCalculator$Negative" (1 : Nat) "GameCalculator$Negative" "this$0" "LGameCalculator;") ∈ lw_all := lw_g (lw_at lw_m9 29 rfl) rfl
theorem q2081 : (Jvm.Cond.laysFinal "GameCalculator$Negative" "GameCalculator$Negative" "of" "LGameCalculator$Expression;") ∈ lw_all := lw_g (lw_at lw_m9 30 rfl) rfl
theorem q2082 : (Jvm.Cond.soleField "GameCalculator$Negative" "of") ∈ lw_all := lw_g (lw_at lw_m9 31 rfl) rfl
theorem q2083 : (Jvm.Cond.laysFinal "GameCalculator$Negative" "GameCalculator$Negative" "this$0" "LGameCalculator;") ∈ lw_all := lw_g (lw_at lw_m9 32 rfl) rfl
theorem q2084 : (Jvm.Cond.soleField "GameCalculator$Negative" "this$0") ∈ lw_all := lw_g (lw_at lw_m9 33 rfl) rfl
theorem q2085 : (Jvm.Cond.superclass "GameCalculator$Negative" "GameCalculator$Expression") ∈ lw_all := lw_g (lw_at lw_m9 34 rfl) rfl
theorem q2126 : (Jvm.Cond.instanceMethod ({ cls := "GameCalculator$Negative", name := "evaluate", desc := "()LGameCalculator$Form;" } : Jvm.MethodName)) ∈ lw_all := lw_g (lw_at lw_m9 75 rfl) rfl
theorem q2127 : (Jvm.Cond.code ({ cls := "GameCalculator$Negative", name := "evaluate", desc := "()LGameCalculator$Form;" } : Jvm.MethodName) prog_10_method_2_code (1 : Nat) (Option.some (Jvm.ClassFile.FieldType.object "GameCalculator$Form"))) ∈ lw_all := lw_g (lw_at lw_m9 76 rfl) rfl
theorem q2128 : (Jvm.Cond.methodLink "GameCalculator$Negative" (17 : Nat) ({ cls := "GameCalculator$Expression", name := "evaluate", desc := "()LGameCalculator$Form;" } : Jvm.MethodName)) ∈ lw_all := lw_g (lw_at lw_m9 77 rfl) rfl
theorem q2133 : (Jvm.Cond.methodLinkNest "GameCalculator$Negative" (21 : Nat) ({ cls := "GameCalculator", name := "negative", desc := "(LGameCalculator$Form;)LGameCalculator$Form;" } : Jvm.MethodName) "GameCalculator") ∈ lw_tbl := lw_at lw_m9 82 rfl
theorem q2138 : (Jvm.Cond.selects "GameCalculator$Negative" ({ cls := "GameCalculator$Expression", name := "evaluate", desc := "()LGameCalculator$Form;" } : Jvm.MethodName) ({ cls := "GameCalculator$Negative", name := "evaluate", desc := "()LGameCalculator$Form;" } : Jvm.MethodName)) ∈ lw_all := lw_g (lw_at lw_m9 87 rfl) rfl
theorem q2994 : (Jvm.Cond.castable "GameCalculator$Negative" "GameCalculator$Expression") ∈ lw_tbl := lw_at lw_m12 223 rfl
theorem q3024 : (Jvm.Cond.castable "GameCalculator$Negative" "java/lang/Object") ∈ lw_tbl := lw_at lw_m13 13 rfl
theorem in_X12 : ∀ w ∈ wsX120, w ∈ lw_all := lw_in wsX120 [2081, 2083] (by decide +kernel) (by decide +kernel)
/-! GameCalculator$Sum -/
set_option maxRecDepth 100000
def RX13 : String := "GameCalculator$Sum"
def TX13 : u_T := fun k => match k with
  | 0 => ("GameCalculator$Sum", "first", "LGameCalculator$Expression;", true)
  | 1 => ("GameCalculator$Sum", "second", "LGameCalculator$Expression;", true)
  | _ => ("GameCalculator$Sum", "this$0", "LGameCalculator;", true)
def tyX13 : Nat → FieldType := fun k => match k with
  | 0 => .object "GameCalculator$Expression"
  | 1 => .object "GameCalculator$Expression"
  | _ => .object "GameCalculator"
abbrev wsX130 : List Cond := u_ws RX13 TX13 3
theorem nmX13 : ∀ a, a < 3 → ∀ b, b < 3 → a ≠ b → (TX13 a).2.1 ≠ (TX13 b).2.1 := by decide +kernel
theorem tyX13_ok : ∀ k, k < 3 → parseFieldDescriptor (TX13 k).2.2.1 = some (tyX13 k) := by decide +kernel
abbrev cX13_init : ByteArray := prog_12_method_1_code
def yX13_init : MethodName := ⟨RX13, "<init>", "(LGameCalculator;LGameCalculator$Expression;LGameCalculator$Expression;)V"⟩
def dkwX13_init_0 : List UInt8 := [42, 43, 181, 0, 1, 42, 183, 0, 7, 42, 44, 181, 0, 13, 42, 45, 181, 0, 17, 177]
abbrev dktX13_init_0 : List UInt8 := dkwX13_init_0 ++ []
theorem dksX13_init_0 : cX13_init.data.toList.drop 0 = dktX13_init_0 := by decide +kernel
theorem dX13_init_0 : decode cX13_init 0 = .ok (.aload_n 0, 1) := dk_42 (dk_at dksX13_init_0 0 rfl rfl)
theorem dX13_init_1 : decode cX13_init 1 = .ok (.aload_n 1, 1) := dk_43 (dk_at dksX13_init_0 1 rfl rfl)
theorem dX13_init_2 : decode cX13_init 2 = .ok (.putfield 1, 3) := dk_181 0 1 (dk_at dksX13_init_0 2 rfl rfl)
theorem dX13_init_5 : decode cX13_init 5 = .ok (.aload_n 0, 1) := dk_42 (dk_at dksX13_init_0 5 rfl rfl)
theorem dX13_init_6 : decode cX13_init 6 = .ok (.invokespecial 7, 3) := dk_183 0 7 (dk_at dksX13_init_0 6 rfl rfl)
theorem dX13_init_9 : decode cX13_init 9 = .ok (.aload_n 0, 1) := dk_42 (dk_at dksX13_init_0 9 rfl rfl)
theorem dX13_init_10 : decode cX13_init 10 = .ok (.aload_n 2, 1) := dk_44 (dk_at dksX13_init_0 10 rfl rfl)
theorem dX13_init_11 : decode cX13_init 11 = .ok (.putfield 13, 3) := dk_181 0 13 (dk_at dksX13_init_0 11 rfl rfl)
theorem dX13_init_14 : decode cX13_init 14 = .ok (.aload_n 0, 1) := dk_42 (dk_at dksX13_init_0 14 rfl rfl)
theorem dX13_init_15 : decode cX13_init 15 = .ok (.aload_n 3, 1) := dk_45 (dk_at dksX13_init_0 15 rfl rfl)
theorem dX13_init_16 : decode cX13_init 16 = .ok (.putfield 17, 3) := dk_181 0 17 (dk_at dksX13_init_0 16 rfl rfl)
theorem dX13_init_19 : decode cX13_init 19 = .ok (.return_, 1) := dk_177 (dk_at dksX13_init_0 19 rfl rfl)
abbrev cX13_evaluate : ByteArray := prog_12_method_2_code
def yX13_evaluate : MethodName := ⟨RX13, "evaluate", "()LGameCalculator$Form;"⟩
def dkwX13_evaluate_0 : List UInt8 := [42, 180, 0, 13, 182, 0, 20, 76, 42, 180, 0, 1, 43, 42, 180, 0, 17, 182, 0, 20, 182, 0, 24, 176]
abbrev dktX13_evaluate_0 : List UInt8 := dkwX13_evaluate_0 ++ []
theorem dksX13_evaluate_0 : cX13_evaluate.data.toList.drop 0 = dktX13_evaluate_0 := by decide +kernel
theorem dX13_evaluate_0 : decode cX13_evaluate 0 = .ok (.aload_n 0, 1) := dk_42 (dk_at dksX13_evaluate_0 0 rfl rfl)
theorem dX13_evaluate_1 : decode cX13_evaluate 1 = .ok (.getfield 13, 3) := dk_180 0 13 (dk_at dksX13_evaluate_0 1 rfl rfl)
theorem dX13_evaluate_4 : decode cX13_evaluate 4 = .ok (.invokevirtual 20, 3) := dk_182 0 20 (dk_at dksX13_evaluate_0 4 rfl rfl)
theorem dX13_evaluate_7 : decode cX13_evaluate 7 = .ok (.astore_n 1, 1) := dk_76 (dk_at dksX13_evaluate_0 7 rfl rfl)
theorem dX13_evaluate_8 : decode cX13_evaluate 8 = .ok (.aload_n 0, 1) := dk_42 (dk_at dksX13_evaluate_0 8 rfl rfl)
theorem dX13_evaluate_9 : decode cX13_evaluate 9 = .ok (.getfield 1, 3) := dk_180 0 1 (dk_at dksX13_evaluate_0 9 rfl rfl)
theorem dX13_evaluate_12 : decode cX13_evaluate 12 = .ok (.aload_n 1, 1) := dk_43 (dk_at dksX13_evaluate_0 12 rfl rfl)
theorem dX13_evaluate_13 : decode cX13_evaluate 13 = .ok (.aload_n 0, 1) := dk_42 (dk_at dksX13_evaluate_0 13 rfl rfl)
theorem dX13_evaluate_14 : decode cX13_evaluate 14 = .ok (.getfield 17, 3) := dk_180 0 17 (dk_at dksX13_evaluate_0 14 rfl rfl)
theorem dX13_evaluate_17 : decode cX13_evaluate 17 = .ok (.invokevirtual 20, 3) := dk_182 0 20 (dk_at dksX13_evaluate_0 17 rfl rfl)
theorem dX13_evaluate_20 : decode cX13_evaluate 20 = .ok (.invokevirtual 24, 3) := dk_182 0 24 (dk_at dksX13_evaluate_0 20 rfl rfl)
theorem dX13_evaluate_23 : decode cX13_evaluate 23 = .ok (.areturn, 1) := dk_176 (dk_at dksX13_evaluate_0 23 rfl rfl)
theorem q181 : (Jvm.Cond.initialized "GameCalculator$Sum") ∈ lw_all := lw_g (lw_at lw_m1 50 rfl) rfl
theorem q825 : (Jvm.Cond.selects "GameCalculator$Sum" ({ cls := "java/lang/Object", name := "getClass", desc := "()Ljava/lang/Class;" } : Jvm.MethodName) ({ cls := "java/lang/Object", name := "getClass", desc := "()Ljava/lang/Class;" } : Jvm.MethodName)) ∈ lw_all := lw_g (lw_at lw_m3 214 rfl) rfl
theorem q2087 : (Jvm.Cond.instantiable "GameCalculator$Sum" (3 : Nat)) ∈ lw_all := lw_g (lw_at lw_m9 36 rfl) rfl
theorem q2089 : (Jvm.Cond.instanceMethod ({ cls := "GameCalculator$Sum", name := "<init>", desc := "(LGameCalculator;LGameCalculator$Expression;LGameCalculator$Expression;)V" } : Jvm.MethodName)) ∈ lw_all := lw_g (lw_at lw_m9 38 rfl) rfl
theorem q2090 : (Jvm.Cond.code ({ cls := "GameCalculator$Sum", name := "<init>", desc := "(LGameCalculator;LGameCalculator$Expression;LGameCalculator$Expression;)V" } : Jvm.MethodName) prog_12_method_1_code (4 : Nat) (Option.none : Option Jvm.ClassFile.FieldType)) ∈ lw_all := lw_g (lw_at lw_m9 39 rfl) rfl
theorem q2091 : (Jvm.Cond.methodLinkNest "GameCalculator$Sum" (7 : Nat) ({ cls := "GameCalculator$Expression", name := "<init>", desc := "()V" } : Jvm.MethodName) "GameCalculator") ∈ lw_tbl := lw_at lw_m9 40 rfl
theorem q2092 : (Jvm.Cond.fieldLink "GameCalculator$Sum" (13 : Nat) "GameCalculator$Sum" "first" "LGameCalculator$Expression;") ∈ lw_all := lw_g (lw_at lw_m9 41 rfl) rfl
theorem q2093 : (Jvm.Cond.fieldLink "GameCalculator$Sum" (17 : Nat) "GameCalculator$Sum" "second" "LGameCalculator$Expression;") ∈ lw_all := lw_g (lw_at lw_m9 42 rfl) rfl
theorem q2094 : (Jvm.Cond.fieldLink "GameCalculator$Sum" (1 : Nat) "GameCalculator$Sum" "this$0" "LGameCalculator;") ∈ lw_all := lw_g (lw_at lw_m9 43 rfl) rfl
theorem q2095 : (Jvm.Cond.laysFinal "GameCalculator$Sum" "GameCalculator$Sum" "first" "LGameCalculator$Expression;") ∈ lw_all := lw_g (lw_at lw_m9 44 rfl) rfl
theorem q2096 : (Jvm.Cond.soleField "GameCalculator$Sum" "first") ∈ lw_all := lw_g (lw_at lw_m9 45 rfl) rfl
theorem q2097 : (Jvm.Cond.laysFinal "GameCalculator$Sum" "GameCalculator$Sum" "second" "LGameCalculator$Expression;") ∈ lw_all := lw_g (lw_at lw_m9 46 rfl) rfl
theorem q2098 : (Jvm.Cond.soleField "GameCalculator$Sum" "second") ∈ lw_all := lw_g (lw_at lw_m9 47 rfl) rfl
theorem q2099 : (Jvm.Cond.laysFinal "GameCalculator$Sum" "GameCalculator$Sum" "this$0" "LGameCalculator;") ∈ lw_all := lw_g (lw_at lw_m9 48 rfl) rfl
theorem q2100 : (Jvm.Cond.soleField "GameCalculator$Sum" "this$0") ∈ lw_all := lw_g (lw_at lw_m9 49 rfl) rfl
theorem q2101 : (Jvm.Cond.superclass "GameCalculator$Sum" "GameCalculator$Expression") ∈ lw_all := lw_g (lw_at lw_m9 50 rfl) rfl
theorem q2129 : (Jvm.Cond.instanceMethod ({ cls := "GameCalculator$Sum", name := "evaluate", desc := "()LGameCalculator$Form;" } : Jvm.MethodName)) ∈ lw_all := lw_g (lw_at lw_m9 78 rfl) rfl
theorem q2130 : (Jvm.Cond.code ({ cls := "GameCalculator$Sum", name := "evaluate", desc := "()LGameCalculator$Form;" } : Jvm.MethodName) prog_12_method_2_code (2 : Nat) (Option.some (Jvm.ClassFile.FieldType.object "GameCalculator$Form"))) ∈ lw_all := lw_g (lw_at lw_m9 79 rfl) rfl
theorem q2131 : (Jvm.Cond.methodLink "GameCalculator$Sum" (20 : Nat) ({ cls := "GameCalculator$Expression", name := "evaluate", desc := "()LGameCalculator$Form;" } : Jvm.MethodName)) ∈ lw_all := lw_g (lw_at lw_m9 80 rfl) rfl
theorem q2132 : (Jvm.Cond.methodLinkNest "GameCalculator$Sum" (24 : Nat) ({ cls := "GameCalculator", name := "sum", desc := "(LGameCalculator$Form;LGameCalculator$Form;)LGameCalculator$Form;" } : Jvm.MethodName) "GameCalculator") ∈ lw_tbl := lw_at lw_m9 81 rfl
theorem q2139 : (Jvm.Cond.selects "GameCalculator$Sum" ({ cls := "GameCalculator$Expression", name := "evaluate", desc := "()LGameCalculator$Form;" } : Jvm.MethodName) ({ cls := "GameCalculator$Sum", name := "evaluate", desc := "()LGameCalculator$Form;" } : Jvm.MethodName)) ∈ lw_all := lw_g (lw_at lw_m9 88 rfl) rfl
theorem q2995 : (Jvm.Cond.castable "GameCalculator$Sum" "GameCalculator$Expression") ∈ lw_tbl := lw_at lw_m12 224 rfl
theorem q3025 : (Jvm.Cond.castable "GameCalculator$Sum" "java/lang/Object") ∈ lw_tbl := lw_at lw_m13 14 rfl
theorem in_X13 : ∀ w ∈ wsX130, w ∈ lw_all := lw_in wsX130 [2095, 2097, 2099] (by decide +kernel) (by decide +kernel)
/-! GameCalculator$Thermograph -/
set_option maxRecDepth 100000
def RX14 : String := "GameCalculator$Thermograph"
def TX14 : u_T := fun k => match k with
  | 0 => ("GameCalculator$Thermograph", "left", "[LGameCalculator$Wall;", true)
  | 1 => ("GameCalculator$Thermograph", "right", "[LGameCalculator$Wall;", true)
  | 2 => ("GameCalculator$Thermograph", "temperature", "J", false)
  | 3 => ("GameCalculator$Thermograph", "even", "LGameCalculator$Wall;", true)
  | _ => ("GameCalculator$Thermograph", "odd", "LGameCalculator$Wall;", true)
def tyX14 : Nat → FieldType := fun k => match k with
  | 0 => .array (.object "GameCalculator$Wall")
  | 1 => .array (.object "GameCalculator$Wall")
  | 2 => .long
  | 3 => .object "GameCalculator$Wall"
  | _ => .object "GameCalculator$Wall"
abbrev wsX140 : List Cond := u_ws RX14 TX14 5
theorem nmX14 : ∀ a, a < 5 → ∀ b, b < 5 → a ≠ b → (TX14 a).2.1 ≠ (TX14 b).2.1 := by decide +kernel
theorem tyX14_ok : ∀ k, k < 5 → parseFieldDescriptor (TX14 k).2.2.1 = some (tyX14 k) := by decide +kernel
abbrev cX14_init : ByteArray := prog_14_method_1_code
def yX14_init : MethodName := ⟨RX14, "<init>", "(LGameCalculator$Form;)V"⟩
def dkwX14_init_8 : List UInt8 := [180, 0, 46, 182, 0, 68, 83, 132, 3, 1, 167, 255, 114, 177]
abbrev dktX14_init_8 : List UInt8 := dkwX14_init_8 ++ []
def dkwX14_init_7 : List UInt8 := [42, 180, 0, 31, 29, 25, 4, 42, 180, 0, 46, 182, 0, 68, 83, 42, 180, 0, 35, 29, 25, 5, 42]
abbrev dktX14_init_7 : List UInt8 := dkwX14_init_7 ++ dktX14_init_8
def dkwX14_init_6 : List UInt8 := [42, 180, 0, 31, 182, 0, 54, 10, 182, 0, 58, 58, 5, 42, 25, 4, 25, 5, 184, 0, 64, 181, 0, 46]
abbrev dktX14_init_6 : List UInt8 := dkwX14_init_6 ++ dktX14_init_7
def dkwX14_init_5 : List UInt8 := [180, 0, 35, 182, 0, 54, 20, 0, 44, 182, 0, 58, 58, 4, 42, 43, 180, 0, 61, 29, 46, 20, 0, 44]
abbrev dktX14_init_5 : List UInt8 := dkwX14_init_5 ++ dktX14_init_6
def dkwX14_init_4 : List UInt8 := [29, 50, 83, 42, 20, 0, 44, 181, 0, 46, 167, 0, 90, 42, 43, 180, 0, 50, 29, 46, 10, 42]
abbrev dktX14_init_4 : List UInt8 := dkwX14_init_4 ++ dktX14_init_5
def dkwX14_init_3 : List UInt8 := [153, 0, 37, 42, 180, 0, 31, 29, 44, 29, 47, 184, 0, 40, 83, 42, 180, 0, 35, 29, 42, 180, 0, 31]
abbrev dktX14_init_3 : List UInt8 := dkwX14_init_3 ++ dktX14_init_4
def dkwX14_init_2 : List UInt8 := [189, 0, 9, 181, 0, 35, 3, 62, 29, 43, 180, 0, 25, 162, 0, 140, 44, 29, 47, 20, 0, 38, 148]
abbrev dktX14_init_2 : List UInt8 := dkwX14_init_2 ++ dktX14_init_3
def dkwX14_init_1 : List UInt8 := [181, 0, 18, 43, 184, 0, 21, 77, 42, 43, 180, 0, 25, 189, 0, 9, 181, 0, 31, 42, 43, 180, 0, 25]
abbrev dktX14_init_1 : List UInt8 := dkwX14_init_1 ++ dktX14_init_2
def dkwX14_init_0 : List UInt8 := [42, 183, 0, 3, 42, 187, 0, 9, 89, 183, 0, 11, 181, 0, 12, 42, 187, 0, 9, 89, 183, 0, 11]
abbrev dktX14_init_0 : List UInt8 := dkwX14_init_0 ++ dktX14_init_1
theorem dksX14_init_0 : cX14_init.data.toList.drop 0 = dktX14_init_0 := by decide +kernel
theorem dksX14_init_1 : cX14_init.data.toList.drop 23 = dktX14_init_1 := dk_seg dksX14_init_0 23 rfl rfl
theorem dksX14_init_2 : cX14_init.data.toList.drop 47 = dktX14_init_2 := dk_seg dksX14_init_1 24 rfl rfl
theorem dksX14_init_3 : cX14_init.data.toList.drop 70 = dktX14_init_3 := dk_seg dksX14_init_2 23 rfl rfl
theorem dksX14_init_4 : cX14_init.data.toList.drop 94 = dktX14_init_4 := dk_seg dksX14_init_3 24 rfl rfl
theorem dksX14_init_5 : cX14_init.data.toList.drop 116 = dktX14_init_5 := dk_seg dksX14_init_4 22 rfl rfl
theorem dksX14_init_6 : cX14_init.data.toList.drop 140 = dktX14_init_6 := dk_seg dksX14_init_5 24 rfl rfl
theorem dksX14_init_7 : cX14_init.data.toList.drop 164 = dktX14_init_7 := dk_seg dksX14_init_6 24 rfl rfl
theorem dksX14_init_8 : cX14_init.data.toList.drop 187 = dktX14_init_8 := dk_seg dksX14_init_7 23 rfl rfl
theorem dX14_init_0 : decode cX14_init 0 = .ok (.aload_n 0, 1) := dk_42 (dk_at dksX14_init_0 0 rfl rfl)
theorem dX14_init_1 : decode cX14_init 1 = .ok (.invokespecial 3, 3) := dk_183 0 3 (dk_at dksX14_init_0 1 rfl rfl)
theorem dX14_init_4 : decode cX14_init 4 = .ok (.aload_n 0, 1) := dk_42 (dk_at dksX14_init_0 4 rfl rfl)
theorem dX14_init_5 : decode cX14_init 5 = .ok (.new 9, 3) := dk_187 0 9 (dk_at dksX14_init_0 5 rfl rfl)
theorem dX14_init_8 : decode cX14_init 8 = .ok (.dup, 1) := dk_89 (dk_at dksX14_init_0 8 rfl rfl)
theorem dX14_init_9 : decode cX14_init 9 = .ok (.invokespecial 11, 3) := dk_183 0 11 (dk_at dksX14_init_0 9 rfl rfl)
theorem dX14_init_12 : decode cX14_init 12 = .ok (.putfield 12, 3) := dk_181 0 12 (dk_at dksX14_init_0 12 rfl rfl)
theorem dX14_init_15 : decode cX14_init 15 = .ok (.aload_n 0, 1) := dk_42 (dk_at dksX14_init_0 15 rfl rfl)
theorem dX14_init_16 : decode cX14_init 16 = .ok (.new 9, 3) := dk_187 0 9 (dk_at dksX14_init_0 16 rfl rfl)
theorem dX14_init_19 : decode cX14_init 19 = .ok (.dup, 1) := dk_89 (dk_at dksX14_init_0 19 rfl rfl)
theorem dX14_init_20 : decode cX14_init 20 = .ok (.invokespecial 11, 3) := dk_183 0 11 (dk_at dksX14_init_0 20 rfl rfl)
theorem dX14_init_23 : decode cX14_init 23 = .ok (.putfield 18, 3) := dk_181 0 18 (dk_at dksX14_init_1 0 rfl rfl)
theorem dX14_init_26 : decode cX14_init 26 = .ok (.aload_n 1, 1) := dk_43 (dk_at dksX14_init_1 3 rfl rfl)
theorem dX14_init_27 : decode cX14_init 27 = .ok (.invokestatic 21, 3) := dk_184 0 21 (dk_at dksX14_init_1 4 rfl rfl)
theorem dX14_init_30 : decode cX14_init 30 = .ok (.astore_n 2, 1) := dk_77 (dk_at dksX14_init_1 7 rfl rfl)
theorem dX14_init_31 : decode cX14_init 31 = .ok (.aload_n 0, 1) := dk_42 (dk_at dksX14_init_1 8 rfl rfl)
theorem dX14_init_32 : decode cX14_init 32 = .ok (.aload_n 1, 1) := dk_43 (dk_at dksX14_init_1 9 rfl rfl)
theorem dX14_init_33 : decode cX14_init 33 = .ok (.getfield 25, 3) := dk_180 0 25 (dk_at dksX14_init_1 10 rfl rfl)
theorem dX14_init_36 : decode cX14_init 36 = .ok (.anewarray 9, 3) := dk_189 0 9 (dk_at dksX14_init_1 13 rfl rfl)
theorem dX14_init_39 : decode cX14_init 39 = .ok (.putfield 31, 3) := dk_181 0 31 (dk_at dksX14_init_1 16 rfl rfl)
theorem dX14_init_42 : decode cX14_init 42 = .ok (.aload_n 0, 1) := dk_42 (dk_at dksX14_init_1 19 rfl rfl)
theorem dX14_init_43 : decode cX14_init 43 = .ok (.aload_n 1, 1) := dk_43 (dk_at dksX14_init_1 20 rfl rfl)
theorem dX14_init_44 : decode cX14_init 44 = .ok (.getfield 25, 3) := dk_180 0 25 (dk_at dksX14_init_1 21 rfl rfl)
theorem dX14_init_47 : decode cX14_init 47 = .ok (.anewarray 9, 3) := dk_189 0 9 (dk_at dksX14_init_2 0 rfl rfl)
theorem dX14_init_50 : decode cX14_init 50 = .ok (.putfield 35, 3) := dk_181 0 35 (dk_at dksX14_init_2 3 rfl rfl)
theorem dX14_init_53 : decode cX14_init 53 = .ok (.iconst 0, 1) := dk_3 (dk_at dksX14_init_2 6 rfl rfl)
theorem dX14_init_54 : decode cX14_init 54 = .ok (.istore_n 3, 1) := dk_62 (dk_at dksX14_init_2 7 rfl rfl)
theorem dX14_init_55 : decode cX14_init 55 = .ok (.iload_n 3, 1) := dk_29 (dk_at dksX14_init_2 8 rfl rfl)
theorem dX14_init_56 : decode cX14_init 56 = .ok (.aload_n 1, 1) := dk_43 (dk_at dksX14_init_2 9 rfl rfl)
theorem dX14_init_57 : decode cX14_init 57 = .ok (.getfield 25, 3) := dk_180 0 25 (dk_at dksX14_init_2 10 rfl rfl)
theorem dX14_init_60 : decode cX14_init 60 = .ok (.if_icmp .ge 140, 3) := dk_162 0 140 (dk_at dksX14_init_2 13 rfl rfl)
theorem dX14_init_63 : decode cX14_init 63 = .ok (.aload_n 2, 1) := dk_44 (dk_at dksX14_init_2 16 rfl rfl)
theorem dX14_init_64 : decode cX14_init 64 = .ok (.iload_n 3, 1) := dk_29 (dk_at dksX14_init_2 17 rfl rfl)
theorem dX14_init_65 : decode cX14_init 65 = .ok (.laload, 1) := dk_47 (dk_at dksX14_init_2 18 rfl rfl)
theorem dX14_init_66 : decode cX14_init 66 = .ok (.ldc2_w 38, 3) := dk_20 0 38 (dk_at dksX14_init_2 19 rfl rfl)
theorem dX14_init_69 : decode cX14_init 69 = .ok (.lcmp, 1) := dk_148 (dk_at dksX14_init_2 22 rfl rfl)
theorem dX14_init_70 : decode cX14_init 70 = .ok (.ifCond .eq 37, 3) := dk_153 0 37 (dk_at dksX14_init_3 0 rfl rfl)
theorem dX14_init_73 : decode cX14_init 73 = .ok (.aload_n 0, 1) := dk_42 (dk_at dksX14_init_3 3 rfl rfl)
theorem dX14_init_74 : decode cX14_init 74 = .ok (.getfield 31, 3) := dk_180 0 31 (dk_at dksX14_init_3 4 rfl rfl)
theorem dX14_init_77 : decode cX14_init 77 = .ok (.iload_n 3, 1) := dk_29 (dk_at dksX14_init_3 7 rfl rfl)
theorem dX14_init_78 : decode cX14_init 78 = .ok (.aload_n 2, 1) := dk_44 (dk_at dksX14_init_3 8 rfl rfl)
theorem dX14_init_79 : decode cX14_init 79 = .ok (.iload_n 3, 1) := dk_29 (dk_at dksX14_init_3 9 rfl rfl)
theorem dX14_init_80 : decode cX14_init 80 = .ok (.laload, 1) := dk_47 (dk_at dksX14_init_3 10 rfl rfl)
theorem dX14_init_81 : decode cX14_init 81 = .ok (.invokestatic 40, 3) := dk_184 0 40 (dk_at dksX14_init_3 11 rfl rfl)
theorem dX14_init_84 : decode cX14_init 84 = .ok (.aastore, 1) := dk_83 (dk_at dksX14_init_3 14 rfl rfl)
theorem dX14_init_85 : decode cX14_init 85 = .ok (.aload_n 0, 1) := dk_42 (dk_at dksX14_init_3 15 rfl rfl)
theorem dX14_init_86 : decode cX14_init 86 = .ok (.getfield 35, 3) := dk_180 0 35 (dk_at dksX14_init_3 16 rfl rfl)
theorem dX14_init_89 : decode cX14_init 89 = .ok (.iload_n 3, 1) := dk_29 (dk_at dksX14_init_3 19 rfl rfl)
theorem dX14_init_90 : decode cX14_init 90 = .ok (.aload_n 0, 1) := dk_42 (dk_at dksX14_init_3 20 rfl rfl)
theorem dX14_init_91 : decode cX14_init 91 = .ok (.getfield 31, 3) := dk_180 0 31 (dk_at dksX14_init_3 21 rfl rfl)
theorem dX14_init_94 : decode cX14_init 94 = .ok (.iload_n 3, 1) := dk_29 (dk_at dksX14_init_4 0 rfl rfl)
theorem dX14_init_95 : decode cX14_init 95 = .ok (.aaload, 1) := dk_50 (dk_at dksX14_init_4 1 rfl rfl)
theorem dX14_init_96 : decode cX14_init 96 = .ok (.aastore, 1) := dk_83 (dk_at dksX14_init_4 2 rfl rfl)
theorem dX14_init_97 : decode cX14_init 97 = .ok (.aload_n 0, 1) := dk_42 (dk_at dksX14_init_4 3 rfl rfl)
theorem dX14_init_98 : decode cX14_init 98 = .ok (.ldc2_w 44, 3) := dk_20 0 44 (dk_at dksX14_init_4 4 rfl rfl)
theorem dX14_init_101 : decode cX14_init 101 = .ok (.putfield 46, 3) := dk_181 0 46 (dk_at dksX14_init_4 7 rfl rfl)
theorem dX14_init_104 : decode cX14_init 104 = .ok (.goto 90, 3) := dk_167 0 90 (dk_at dksX14_init_4 10 rfl rfl)
theorem dX14_init_107 : decode cX14_init 107 = .ok (.aload_n 0, 1) := dk_42 (dk_at dksX14_init_4 13 rfl rfl)
theorem dX14_init_108 : decode cX14_init 108 = .ok (.aload_n 1, 1) := dk_43 (dk_at dksX14_init_4 14 rfl rfl)
theorem dX14_init_109 : decode cX14_init 109 = .ok (.getfield 50, 3) := dk_180 0 50 (dk_at dksX14_init_4 15 rfl rfl)
theorem dX14_init_112 : decode cX14_init 112 = .ok (.iload_n 3, 1) := dk_29 (dk_at dksX14_init_4 18 rfl rfl)
theorem dX14_init_113 : decode cX14_init 113 = .ok (.iaload, 1) := dk_46 (dk_at dksX14_init_4 19 rfl rfl)
theorem dX14_init_114 : decode cX14_init 114 = .ok (.lconst 1, 1) := dk_10 (dk_at dksX14_init_4 20 rfl rfl)
theorem dX14_init_115 : decode cX14_init 115 = .ok (.aload_n 0, 1) := dk_42 (dk_at dksX14_init_4 21 rfl rfl)
theorem dX14_init_116 : decode cX14_init 116 = .ok (.getfield 35, 3) := dk_180 0 35 (dk_at dksX14_init_5 0 rfl rfl)
theorem dX14_init_119 : decode cX14_init 119 = .ok (.invokevirtual 54, 3) := dk_182 0 54 (dk_at dksX14_init_5 3 rfl rfl)
theorem dX14_init_122 : decode cX14_init 122 = .ok (.ldc2_w 44, 3) := dk_20 0 44 (dk_at dksX14_init_5 6 rfl rfl)
theorem dX14_init_125 : decode cX14_init 125 = .ok (.invokevirtual 58, 3) := dk_182 0 58 (dk_at dksX14_init_5 9 rfl rfl)
theorem dX14_init_128 : decode cX14_init 128 = .ok (.astore 4, 2) := dk_58 4 (dk_at dksX14_init_5 12 rfl rfl)
theorem dX14_init_130 : decode cX14_init 130 = .ok (.aload_n 0, 1) := dk_42 (dk_at dksX14_init_5 14 rfl rfl)
theorem dX14_init_131 : decode cX14_init 131 = .ok (.aload_n 1, 1) := dk_43 (dk_at dksX14_init_5 15 rfl rfl)
theorem dX14_init_132 : decode cX14_init 132 = .ok (.getfield 61, 3) := dk_180 0 61 (dk_at dksX14_init_5 16 rfl rfl)
theorem dX14_init_135 : decode cX14_init 135 = .ok (.iload_n 3, 1) := dk_29 (dk_at dksX14_init_5 19 rfl rfl)
theorem dX14_init_136 : decode cX14_init 136 = .ok (.iaload, 1) := dk_46 (dk_at dksX14_init_5 20 rfl rfl)
theorem dX14_init_137 : decode cX14_init 137 = .ok (.ldc2_w 44, 3) := dk_20 0 44 (dk_at dksX14_init_5 21 rfl rfl)
theorem dX14_init_140 : decode cX14_init 140 = .ok (.aload_n 0, 1) := dk_42 (dk_at dksX14_init_6 0 rfl rfl)
theorem dX14_init_141 : decode cX14_init 141 = .ok (.getfield 31, 3) := dk_180 0 31 (dk_at dksX14_init_6 1 rfl rfl)
theorem dX14_init_144 : decode cX14_init 144 = .ok (.invokevirtual 54, 3) := dk_182 0 54 (dk_at dksX14_init_6 4 rfl rfl)
theorem dX14_init_147 : decode cX14_init 147 = .ok (.lconst 1, 1) := dk_10 (dk_at dksX14_init_6 7 rfl rfl)
theorem dX14_init_148 : decode cX14_init 148 = .ok (.invokevirtual 58, 3) := dk_182 0 58 (dk_at dksX14_init_6 8 rfl rfl)
theorem dX14_init_151 : decode cX14_init 151 = .ok (.astore 5, 2) := dk_58 5 (dk_at dksX14_init_6 11 rfl rfl)
theorem dX14_init_153 : decode cX14_init 153 = .ok (.aload_n 0, 1) := dk_42 (dk_at dksX14_init_6 13 rfl rfl)
theorem dX14_init_154 : decode cX14_init 154 = .ok (.aload 4, 2) := dk_25 4 (dk_at dksX14_init_6 14 rfl rfl)
theorem dX14_init_156 : decode cX14_init 156 = .ok (.aload 5, 2) := dk_25 5 (dk_at dksX14_init_6 16 rfl rfl)
theorem dX14_init_158 : decode cX14_init 158 = .ok (.invokestatic 64, 3) := dk_184 0 64 (dk_at dksX14_init_6 18 rfl rfl)
theorem dX14_init_161 : decode cX14_init 161 = .ok (.putfield 46, 3) := dk_181 0 46 (dk_at dksX14_init_6 21 rfl rfl)
theorem dX14_init_164 : decode cX14_init 164 = .ok (.aload_n 0, 1) := dk_42 (dk_at dksX14_init_7 0 rfl rfl)
theorem dX14_init_165 : decode cX14_init 165 = .ok (.getfield 31, 3) := dk_180 0 31 (dk_at dksX14_init_7 1 rfl rfl)
theorem dX14_init_168 : decode cX14_init 168 = .ok (.iload_n 3, 1) := dk_29 (dk_at dksX14_init_7 4 rfl rfl)
theorem dX14_init_169 : decode cX14_init 169 = .ok (.aload 4, 2) := dk_25 4 (dk_at dksX14_init_7 5 rfl rfl)
theorem dX14_init_171 : decode cX14_init 171 = .ok (.aload_n 0, 1) := dk_42 (dk_at dksX14_init_7 7 rfl rfl)
theorem dX14_init_172 : decode cX14_init 172 = .ok (.getfield 46, 3) := dk_180 0 46 (dk_at dksX14_init_7 8 rfl rfl)
theorem dX14_init_175 : decode cX14_init 175 = .ok (.invokevirtual 68, 3) := dk_182 0 68 (dk_at dksX14_init_7 11 rfl rfl)
theorem dX14_init_178 : decode cX14_init 178 = .ok (.aastore, 1) := dk_83 (dk_at dksX14_init_7 14 rfl rfl)
theorem dX14_init_179 : decode cX14_init 179 = .ok (.aload_n 0, 1) := dk_42 (dk_at dksX14_init_7 15 rfl rfl)
theorem dX14_init_180 : decode cX14_init 180 = .ok (.getfield 35, 3) := dk_180 0 35 (dk_at dksX14_init_7 16 rfl rfl)
theorem dX14_init_183 : decode cX14_init 183 = .ok (.iload_n 3, 1) := dk_29 (dk_at dksX14_init_7 19 rfl rfl)
theorem dX14_init_184 : decode cX14_init 184 = .ok (.aload 5, 2) := dk_25 5 (dk_at dksX14_init_7 20 rfl rfl)
theorem dX14_init_186 : decode cX14_init 186 = .ok (.aload_n 0, 1) := dk_42 (dk_at dksX14_init_7 22 rfl rfl)
theorem dX14_init_187 : decode cX14_init 187 = .ok (.getfield 46, 3) := dk_180 0 46 (dk_at dksX14_init_8 0 rfl rfl)
theorem dX14_init_190 : decode cX14_init 190 = .ok (.invokevirtual 68, 3) := dk_182 0 68 (dk_at dksX14_init_8 3 rfl rfl)
theorem dX14_init_193 : decode cX14_init 193 = .ok (.aastore, 1) := dk_83 (dk_at dksX14_init_8 6 rfl rfl)
theorem dX14_init_194 : decode cX14_init 194 = .ok (.iinc 3 1, 3) := dk_132 3 1 (dk_at dksX14_init_8 7 rfl rfl)
theorem dX14_init_197 : decode cX14_init 197 = .ok (.goto (-142), 3) := dk_167 255 114 (dk_at dksX14_init_8 10 rfl rfl)
theorem dX14_init_200 : decode cX14_init 200 = .ok (.return_, 1) := dk_177 (dk_at dksX14_init_8 13 rfl rfl)
abbrev cX14_best : ByteArray := prog_14_method_2_code
def yX14_best : MethodName := ⟨RX14, "best", "(IJ[LGameCalculator$Wall;)LGameCalculator$Wall;"⟩
def dkwX14_best_3 : List UInt8 := [54, 6, 167, 255, 200, 25, 5, 176]
abbrev dktX14_best_3 : List UInt8 := dkwX14_best_3 ++ []
def dkwX14_best_2 : List UInt8 := [25, 4, 21, 6, 184, 0, 71, 50, 32, 182, 0, 77, 25, 7, 58, 5, 21, 6, 21, 6, 4, 100, 126]
abbrev dktX14_best_2 : List UInt8 := dkwX14_best_2 ++ dktX14_best_3
def dkwX14_best_1 : List UInt8 := [180, 0, 12, 166, 0, 10, 42, 180, 0, 18, 167, 0, 7, 42, 180, 0, 12, 58, 7, 25, 7, 25, 5]
abbrev dktX14_best_1 : List UInt8 := dkwX14_best_1 ++ dktX14_best_2
def dkwX14_best_0 : List UInt8 := [25, 4, 27, 184, 0, 71, 50, 58, 5, 27, 27, 4, 100, 126, 54, 6, 21, 6, 153, 0, 57, 25, 5, 42]
abbrev dktX14_best_0 : List UInt8 := dkwX14_best_0 ++ dktX14_best_1
theorem dksX14_best_0 : cX14_best.data.toList.drop 0 = dktX14_best_0 := by decide +kernel
theorem dksX14_best_1 : cX14_best.data.toList.drop 24 = dktX14_best_1 := dk_seg dksX14_best_0 24 rfl rfl
theorem dksX14_best_2 : cX14_best.data.toList.drop 47 = dktX14_best_2 := dk_seg dksX14_best_1 23 rfl rfl
theorem dksX14_best_3 : cX14_best.data.toList.drop 70 = dktX14_best_3 := dk_seg dksX14_best_2 23 rfl rfl
theorem dX14_best_0 : decode cX14_best 0 = .ok (.aload 4, 2) := dk_25 4 (dk_at dksX14_best_0 0 rfl rfl)
theorem dX14_best_2 : decode cX14_best 2 = .ok (.iload_n 1, 1) := dk_27 (dk_at dksX14_best_0 2 rfl rfl)
theorem dX14_best_3 : decode cX14_best 3 = .ok (.invokestatic 71, 3) := dk_184 0 71 (dk_at dksX14_best_0 3 rfl rfl)
theorem dX14_best_6 : decode cX14_best 6 = .ok (.aaload, 1) := dk_50 (dk_at dksX14_best_0 6 rfl rfl)
theorem dX14_best_7 : decode cX14_best 7 = .ok (.astore 5, 2) := dk_58 5 (dk_at dksX14_best_0 7 rfl rfl)
theorem dX14_best_9 : decode cX14_best 9 = .ok (.iload_n 1, 1) := dk_27 (dk_at dksX14_best_0 9 rfl rfl)
theorem dX14_best_10 : decode cX14_best 10 = .ok (.iload_n 1, 1) := dk_27 (dk_at dksX14_best_0 10 rfl rfl)
theorem dX14_best_11 : decode cX14_best 11 = .ok (.iconst 1, 1) := dk_4 (dk_at dksX14_best_0 11 rfl rfl)
theorem dX14_best_12 : decode cX14_best 12 = .ok (.isub, 1) := dk_100 (dk_at dksX14_best_0 12 rfl rfl)
theorem dX14_best_13 : decode cX14_best 13 = .ok (.iand, 1) := dk_126 (dk_at dksX14_best_0 13 rfl rfl)
theorem dX14_best_14 : decode cX14_best 14 = .ok (.istore 6, 2) := dk_54 6 (dk_at dksX14_best_0 14 rfl rfl)
theorem dX14_best_16 : decode cX14_best 16 = .ok (.iload 6, 2) := dk_21 6 (dk_at dksX14_best_0 16 rfl rfl)
theorem dX14_best_18 : decode cX14_best 18 = .ok (.ifCond .eq 57, 3) := dk_153 0 57 (dk_at dksX14_best_0 18 rfl rfl)
theorem dX14_best_21 : decode cX14_best 21 = .ok (.aload 5, 2) := dk_25 5 (dk_at dksX14_best_0 21 rfl rfl)
theorem dX14_best_23 : decode cX14_best 23 = .ok (.aload_n 0, 1) := dk_42 (dk_at dksX14_best_0 23 rfl rfl)
theorem dX14_best_24 : decode cX14_best 24 = .ok (.getfield 12, 3) := dk_180 0 12 (dk_at dksX14_best_1 0 rfl rfl)
theorem dX14_best_27 : decode cX14_best 27 = .ok (.if_acmp .ne 10, 3) := dk_166 0 10 (dk_at dksX14_best_1 3 rfl rfl)
theorem dX14_best_30 : decode cX14_best 30 = .ok (.aload_n 0, 1) := dk_42 (dk_at dksX14_best_1 6 rfl rfl)
theorem dX14_best_31 : decode cX14_best 31 = .ok (.getfield 18, 3) := dk_180 0 18 (dk_at dksX14_best_1 7 rfl rfl)
theorem dX14_best_34 : decode cX14_best 34 = .ok (.goto 7, 3) := dk_167 0 7 (dk_at dksX14_best_1 10 rfl rfl)
theorem dX14_best_37 : decode cX14_best 37 = .ok (.aload_n 0, 1) := dk_42 (dk_at dksX14_best_1 13 rfl rfl)
theorem dX14_best_38 : decode cX14_best 38 = .ok (.getfield 12, 3) := dk_180 0 12 (dk_at dksX14_best_1 14 rfl rfl)
theorem dX14_best_41 : decode cX14_best 41 = .ok (.astore 7, 2) := dk_58 7 (dk_at dksX14_best_1 17 rfl rfl)
theorem dX14_best_43 : decode cX14_best 43 = .ok (.aload 7, 2) := dk_25 7 (dk_at dksX14_best_1 19 rfl rfl)
theorem dX14_best_45 : decode cX14_best 45 = .ok (.aload 5, 2) := dk_25 5 (dk_at dksX14_best_1 21 rfl rfl)
theorem dX14_best_47 : decode cX14_best 47 = .ok (.aload 4, 2) := dk_25 4 (dk_at dksX14_best_2 0 rfl rfl)
theorem dX14_best_49 : decode cX14_best 49 = .ok (.iload 6, 2) := dk_21 6 (dk_at dksX14_best_2 2 rfl rfl)
theorem dX14_best_51 : decode cX14_best 51 = .ok (.invokestatic 71, 3) := dk_184 0 71 (dk_at dksX14_best_2 4 rfl rfl)
theorem dX14_best_54 : decode cX14_best 54 = .ok (.aaload, 1) := dk_50 (dk_at dksX14_best_2 7 rfl rfl)
theorem dX14_best_55 : decode cX14_best 55 = .ok (.lload_n 2, 1) := dk_32 (dk_at dksX14_best_2 8 rfl rfl)
theorem dX14_best_56 : decode cX14_best 56 = .ok (.invokevirtual 77, 3) := dk_182 0 77 (dk_at dksX14_best_2 9 rfl rfl)
theorem dX14_best_59 : decode cX14_best 59 = .ok (.aload 7, 2) := dk_25 7 (dk_at dksX14_best_2 12 rfl rfl)
theorem dX14_best_61 : decode cX14_best 61 = .ok (.astore 5, 2) := dk_58 5 (dk_at dksX14_best_2 14 rfl rfl)
theorem dX14_best_63 : decode cX14_best 63 = .ok (.iload 6, 2) := dk_21 6 (dk_at dksX14_best_2 16 rfl rfl)
theorem dX14_best_65 : decode cX14_best 65 = .ok (.iload 6, 2) := dk_21 6 (dk_at dksX14_best_2 18 rfl rfl)
theorem dX14_best_67 : decode cX14_best 67 = .ok (.iconst 1, 1) := dk_4 (dk_at dksX14_best_2 20 rfl rfl)
theorem dX14_best_68 : decode cX14_best 68 = .ok (.isub, 1) := dk_100 (dk_at dksX14_best_2 21 rfl rfl)
theorem dX14_best_69 : decode cX14_best 69 = .ok (.iand, 1) := dk_126 (dk_at dksX14_best_2 22 rfl rfl)
theorem dX14_best_70 : decode cX14_best 70 = .ok (.istore 6, 2) := dk_54 6 (dk_at dksX14_best_3 0 rfl rfl)
theorem dX14_best_72 : decode cX14_best 72 = .ok (.goto (-56), 3) := dk_167 255 200 (dk_at dksX14_best_3 2 rfl rfl)
theorem dX14_best_75 : decode cX14_best 75 = .ok (.aload 5, 2) := dk_25 5 (dk_at dksX14_best_3 5 rfl rfl)
theorem dX14_best_77 : decode cX14_best 77 = .ok (.areturn, 1) := dk_176 (dk_at dksX14_best_3 7 rfl rfl)
abbrev cX14_meeting : ByteArray := prog_14_method_3_code
def yX14_meeting : MethodName := ⟨RX14, "meeting", "(LGameCalculator$Wall;LGameCalculator$Wall;)J"⟩
def dkwX14_meeting_4 : List UInt8 := [167, 255, 164, 32, 173]
abbrev dktX14_meeting_4 : List UInt8 := dkwX14_meeting_4 ++ []
def dkwX14_meeting_3 : List UInt8 := [148, 156, 0, 19, 32, 22, 4, 22, 4, 22, 8, 101, 22, 6, 32, 101, 109, 109, 97, 173, 22, 6, 65]
abbrev dktX14_meeting_3 : List UInt8 := dkwX14_meeting_3 ++ dktX14_meeting_4
def dkwX14_meeting_2 : List UInt8 := [20, 0, 89, 109, 97, 173, 42, 22, 6, 182, 0, 81, 43, 22, 6, 182, 0, 81, 101, 55, 8, 22, 8, 9]
abbrev dktX14_meeting_2 : List UInt8 := dkwX14_meeting_2 ++ dktX14_meeting_3
def dkwX14_meeting_1 : List UInt8 := [182, 0, 81, 101, 55, 4, 42, 43, 32, 184, 0, 85, 55, 6, 22, 6, 9, 148, 156, 0, 12, 32, 22, 4]
abbrev dktX14_meeting_1 : List UInt8 := dkwX14_meeting_1 ++ dktX14_meeting_2
def dkwX14_meeting_0 : List UInt8 := [9, 65, 42, 32, 182, 0, 81, 43, 32, 182, 0, 81, 148, 158, 0, 84, 42, 32, 182, 0, 81, 43, 32]
abbrev dktX14_meeting_0 : List UInt8 := dkwX14_meeting_0 ++ dktX14_meeting_1
theorem dksX14_meeting_0 : cX14_meeting.data.toList.drop 0 = dktX14_meeting_0 := by decide +kernel
theorem dksX14_meeting_1 : cX14_meeting.data.toList.drop 23 = dktX14_meeting_1 := dk_seg dksX14_meeting_0 23 rfl rfl
theorem dksX14_meeting_2 : cX14_meeting.data.toList.drop 47 = dktX14_meeting_2 := dk_seg dksX14_meeting_1 24 rfl rfl
theorem dksX14_meeting_3 : cX14_meeting.data.toList.drop 71 = dktX14_meeting_3 := dk_seg dksX14_meeting_2 24 rfl rfl
theorem dksX14_meeting_4 : cX14_meeting.data.toList.drop 94 = dktX14_meeting_4 := dk_seg dksX14_meeting_3 23 rfl rfl
theorem dX14_meeting_0 : decode cX14_meeting 0 = .ok (.lconst 0, 1) := dk_9 (dk_at dksX14_meeting_0 0 rfl rfl)
theorem dX14_meeting_1 : decode cX14_meeting 1 = .ok (.lstore_n 2, 1) := dk_65 (dk_at dksX14_meeting_0 1 rfl rfl)
theorem dX14_meeting_2 : decode cX14_meeting 2 = .ok (.aload_n 0, 1) := dk_42 (dk_at dksX14_meeting_0 2 rfl rfl)
theorem dX14_meeting_3 : decode cX14_meeting 3 = .ok (.lload_n 2, 1) := dk_32 (dk_at dksX14_meeting_0 3 rfl rfl)
theorem dX14_meeting_4 : decode cX14_meeting 4 = .ok (.invokevirtual 81, 3) := dk_182 0 81 (dk_at dksX14_meeting_0 4 rfl rfl)
theorem dX14_meeting_7 : decode cX14_meeting 7 = .ok (.aload_n 1, 1) := dk_43 (dk_at dksX14_meeting_0 7 rfl rfl)
theorem dX14_meeting_8 : decode cX14_meeting 8 = .ok (.lload_n 2, 1) := dk_32 (dk_at dksX14_meeting_0 8 rfl rfl)
theorem dX14_meeting_9 : decode cX14_meeting 9 = .ok (.invokevirtual 81, 3) := dk_182 0 81 (dk_at dksX14_meeting_0 9 rfl rfl)
theorem dX14_meeting_12 : decode cX14_meeting 12 = .ok (.lcmp, 1) := dk_148 (dk_at dksX14_meeting_0 12 rfl rfl)
theorem dX14_meeting_13 : decode cX14_meeting 13 = .ok (.ifCond .le 84, 3) := dk_158 0 84 (dk_at dksX14_meeting_0 13 rfl rfl)
theorem dX14_meeting_16 : decode cX14_meeting 16 = .ok (.aload_n 0, 1) := dk_42 (dk_at dksX14_meeting_0 16 rfl rfl)
theorem dX14_meeting_17 : decode cX14_meeting 17 = .ok (.lload_n 2, 1) := dk_32 (dk_at dksX14_meeting_0 17 rfl rfl)
theorem dX14_meeting_18 : decode cX14_meeting 18 = .ok (.invokevirtual 81, 3) := dk_182 0 81 (dk_at dksX14_meeting_0 18 rfl rfl)
theorem dX14_meeting_21 : decode cX14_meeting 21 = .ok (.aload_n 1, 1) := dk_43 (dk_at dksX14_meeting_0 21 rfl rfl)
theorem dX14_meeting_22 : decode cX14_meeting 22 = .ok (.lload_n 2, 1) := dk_32 (dk_at dksX14_meeting_0 22 rfl rfl)
theorem dX14_meeting_23 : decode cX14_meeting 23 = .ok (.invokevirtual 81, 3) := dk_182 0 81 (dk_at dksX14_meeting_1 0 rfl rfl)
theorem dX14_meeting_26 : decode cX14_meeting 26 = .ok (.lsub, 1) := dk_101 (dk_at dksX14_meeting_1 3 rfl rfl)
theorem dX14_meeting_27 : decode cX14_meeting 27 = .ok (.lstore 4, 2) := dk_55 4 (dk_at dksX14_meeting_1 4 rfl rfl)
theorem dX14_meeting_29 : decode cX14_meeting 29 = .ok (.aload_n 0, 1) := dk_42 (dk_at dksX14_meeting_1 6 rfl rfl)
theorem dX14_meeting_30 : decode cX14_meeting 30 = .ok (.aload_n 1, 1) := dk_43 (dk_at dksX14_meeting_1 7 rfl rfl)
theorem dX14_meeting_31 : decode cX14_meeting 31 = .ok (.lload_n 2, 1) := dk_32 (dk_at dksX14_meeting_1 8 rfl rfl)
theorem dX14_meeting_32 : decode cX14_meeting 32 = .ok (.invokestatic 85, 3) := dk_184 0 85 (dk_at dksX14_meeting_1 9 rfl rfl)
theorem dX14_meeting_35 : decode cX14_meeting 35 = .ok (.lstore 6, 2) := dk_55 6 (dk_at dksX14_meeting_1 12 rfl rfl)
theorem dX14_meeting_37 : decode cX14_meeting 37 = .ok (.lload 6, 2) := dk_22 6 (dk_at dksX14_meeting_1 14 rfl rfl)
theorem dX14_meeting_39 : decode cX14_meeting 39 = .ok (.lconst 0, 1) := dk_9 (dk_at dksX14_meeting_1 16 rfl rfl)
theorem dX14_meeting_40 : decode cX14_meeting 40 = .ok (.lcmp, 1) := dk_148 (dk_at dksX14_meeting_1 17 rfl rfl)
theorem dX14_meeting_41 : decode cX14_meeting 41 = .ok (.ifCond .ge 12, 3) := dk_156 0 12 (dk_at dksX14_meeting_1 18 rfl rfl)
theorem dX14_meeting_44 : decode cX14_meeting 44 = .ok (.lload_n 2, 1) := dk_32 (dk_at dksX14_meeting_1 21 rfl rfl)
theorem dX14_meeting_45 : decode cX14_meeting 45 = .ok (.lload 4, 2) := dk_22 4 (dk_at dksX14_meeting_1 22 rfl rfl)
theorem dX14_meeting_47 : decode cX14_meeting 47 = .ok (.ldc2_w 89, 3) := dk_20 0 89 (dk_at dksX14_meeting_2 0 rfl rfl)
theorem dX14_meeting_50 : decode cX14_meeting 50 = .ok (.ldiv, 1) := dk_109 (dk_at dksX14_meeting_2 3 rfl rfl)
theorem dX14_meeting_51 : decode cX14_meeting 51 = .ok (.ladd, 1) := dk_97 (dk_at dksX14_meeting_2 4 rfl rfl)
theorem dX14_meeting_52 : decode cX14_meeting 52 = .ok (.lreturn, 1) := dk_173 (dk_at dksX14_meeting_2 5 rfl rfl)
theorem dX14_meeting_53 : decode cX14_meeting 53 = .ok (.aload_n 0, 1) := dk_42 (dk_at dksX14_meeting_2 6 rfl rfl)
theorem dX14_meeting_54 : decode cX14_meeting 54 = .ok (.lload 6, 2) := dk_22 6 (dk_at dksX14_meeting_2 7 rfl rfl)
theorem dX14_meeting_56 : decode cX14_meeting 56 = .ok (.invokevirtual 81, 3) := dk_182 0 81 (dk_at dksX14_meeting_2 9 rfl rfl)
theorem dX14_meeting_59 : decode cX14_meeting 59 = .ok (.aload_n 1, 1) := dk_43 (dk_at dksX14_meeting_2 12 rfl rfl)
theorem dX14_meeting_60 : decode cX14_meeting 60 = .ok (.lload 6, 2) := dk_22 6 (dk_at dksX14_meeting_2 13 rfl rfl)
theorem dX14_meeting_62 : decode cX14_meeting 62 = .ok (.invokevirtual 81, 3) := dk_182 0 81 (dk_at dksX14_meeting_2 15 rfl rfl)
theorem dX14_meeting_65 : decode cX14_meeting 65 = .ok (.lsub, 1) := dk_101 (dk_at dksX14_meeting_2 18 rfl rfl)
theorem dX14_meeting_66 : decode cX14_meeting 66 = .ok (.lstore 8, 2) := dk_55 8 (dk_at dksX14_meeting_2 19 rfl rfl)
theorem dX14_meeting_68 : decode cX14_meeting 68 = .ok (.lload 8, 2) := dk_22 8 (dk_at dksX14_meeting_2 21 rfl rfl)
theorem dX14_meeting_70 : decode cX14_meeting 70 = .ok (.lconst 0, 1) := dk_9 (dk_at dksX14_meeting_2 23 rfl rfl)
theorem dX14_meeting_71 : decode cX14_meeting 71 = .ok (.lcmp, 1) := dk_148 (dk_at dksX14_meeting_3 0 rfl rfl)
theorem dX14_meeting_72 : decode cX14_meeting 72 = .ok (.ifCond .ge 19, 3) := dk_156 0 19 (dk_at dksX14_meeting_3 1 rfl rfl)
theorem dX14_meeting_75 : decode cX14_meeting 75 = .ok (.lload_n 2, 1) := dk_32 (dk_at dksX14_meeting_3 4 rfl rfl)
theorem dX14_meeting_76 : decode cX14_meeting 76 = .ok (.lload 4, 2) := dk_22 4 (dk_at dksX14_meeting_3 5 rfl rfl)
theorem dX14_meeting_78 : decode cX14_meeting 78 = .ok (.lload 4, 2) := dk_22 4 (dk_at dksX14_meeting_3 7 rfl rfl)
theorem dX14_meeting_80 : decode cX14_meeting 80 = .ok (.lload 8, 2) := dk_22 8 (dk_at dksX14_meeting_3 9 rfl rfl)
theorem dX14_meeting_82 : decode cX14_meeting 82 = .ok (.lsub, 1) := dk_101 (dk_at dksX14_meeting_3 11 rfl rfl)
theorem dX14_meeting_83 : decode cX14_meeting 83 = .ok (.lload 6, 2) := dk_22 6 (dk_at dksX14_meeting_3 12 rfl rfl)
theorem dX14_meeting_85 : decode cX14_meeting 85 = .ok (.lload_n 2, 1) := dk_32 (dk_at dksX14_meeting_3 14 rfl rfl)
theorem dX14_meeting_86 : decode cX14_meeting 86 = .ok (.lsub, 1) := dk_101 (dk_at dksX14_meeting_3 15 rfl rfl)
theorem dX14_meeting_87 : decode cX14_meeting 87 = .ok (.ldiv, 1) := dk_109 (dk_at dksX14_meeting_3 16 rfl rfl)
theorem dX14_meeting_88 : decode cX14_meeting 88 = .ok (.ldiv, 1) := dk_109 (dk_at dksX14_meeting_3 17 rfl rfl)
theorem dX14_meeting_89 : decode cX14_meeting 89 = .ok (.ladd, 1) := dk_97 (dk_at dksX14_meeting_3 18 rfl rfl)
theorem dX14_meeting_90 : decode cX14_meeting 90 = .ok (.lreturn, 1) := dk_173 (dk_at dksX14_meeting_3 19 rfl rfl)
theorem dX14_meeting_91 : decode cX14_meeting 91 = .ok (.lload 6, 2) := dk_22 6 (dk_at dksX14_meeting_3 20 rfl rfl)
theorem dX14_meeting_93 : decode cX14_meeting 93 = .ok (.lstore_n 2, 1) := dk_65 (dk_at dksX14_meeting_3 22 rfl rfl)
theorem dX14_meeting_94 : decode cX14_meeting 94 = .ok (.goto (-92), 3) := dk_167 255 164 (dk_at dksX14_meeting_4 0 rfl rfl)
theorem dX14_meeting_97 : decode cX14_meeting 97 = .ok (.lload_n 2, 1) := dk_32 (dk_at dksX14_meeting_4 3 rfl rfl)
theorem dX14_meeting_98 : decode cX14_meeting 98 = .ok (.lreturn, 1) := dk_173 (dk_at dksX14_meeting_4 4 rfl rfl)
abbrev cX14_at : ByteArray := prog_14_method_4_code
def yX14_at : MethodName := ⟨RX14, "at", "(IJ)J"⟩
def dkwX14_at_1 : List UInt8 := [182, 0, 81, 173]
abbrev dktX14_at_1 : List UInt8 := dkwX14_at_1 ++ []
def dkwX14_at_0 : List UInt8 := [27, 154, 0, 10, 42, 180, 0, 31, 167, 0, 7, 42, 180, 0, 35, 42, 180, 0, 31, 190, 4, 100, 50, 32]
abbrev dktX14_at_0 : List UInt8 := dkwX14_at_0 ++ dktX14_at_1
theorem dksX14_at_0 : cX14_at.data.toList.drop 0 = dktX14_at_0 := by decide +kernel
theorem dksX14_at_1 : cX14_at.data.toList.drop 24 = dktX14_at_1 := dk_seg dksX14_at_0 24 rfl rfl
theorem dX14_at_0 : decode cX14_at 0 = .ok (.iload_n 1, 1) := dk_27 (dk_at dksX14_at_0 0 rfl rfl)
theorem dX14_at_1 : decode cX14_at 1 = .ok (.ifCond .ne 10, 3) := dk_154 0 10 (dk_at dksX14_at_0 1 rfl rfl)
theorem dX14_at_4 : decode cX14_at 4 = .ok (.aload_n 0, 1) := dk_42 (dk_at dksX14_at_0 4 rfl rfl)
theorem dX14_at_5 : decode cX14_at 5 = .ok (.getfield 31, 3) := dk_180 0 31 (dk_at dksX14_at_0 5 rfl rfl)
theorem dX14_at_8 : decode cX14_at 8 = .ok (.goto 7, 3) := dk_167 0 7 (dk_at dksX14_at_0 8 rfl rfl)
theorem dX14_at_11 : decode cX14_at 11 = .ok (.aload_n 0, 1) := dk_42 (dk_at dksX14_at_0 11 rfl rfl)
theorem dX14_at_12 : decode cX14_at 12 = .ok (.getfield 35, 3) := dk_180 0 35 (dk_at dksX14_at_0 12 rfl rfl)
theorem dX14_at_15 : decode cX14_at 15 = .ok (.aload_n 0, 1) := dk_42 (dk_at dksX14_at_0 15 rfl rfl)
theorem dX14_at_16 : decode cX14_at 16 = .ok (.getfield 31, 3) := dk_180 0 31 (dk_at dksX14_at_0 16 rfl rfl)
theorem dX14_at_19 : decode cX14_at 19 = .ok (.arraylength, 1) := dk_190 (dk_at dksX14_at_0 19 rfl rfl)
theorem dX14_at_20 : decode cX14_at 20 = .ok (.iconst 1, 1) := dk_4 (dk_at dksX14_at_0 20 rfl rfl)
theorem dX14_at_21 : decode cX14_at 21 = .ok (.isub, 1) := dk_100 (dk_at dksX14_at_0 21 rfl rfl)
theorem dX14_at_22 : decode cX14_at 22 = .ok (.aaload, 1) := dk_50 (dk_at dksX14_at_0 22 rfl rfl)
theorem dX14_at_23 : decode cX14_at 23 = .ok (.lload_n 2, 1) := dk_32 (dk_at dksX14_at_0 23 rfl rfl)
theorem dX14_at_24 : decode cX14_at 24 = .ok (.invokevirtual 81, 3) := dk_182 0 81 (dk_at dksX14_at_1 0 rfl rfl)
theorem dX14_at_27 : decode cX14_at 27 = .ok (.lreturn, 1) := dk_173 (dk_at dksX14_at_1 3 rfl rfl)
theorem q182 : (Jvm.Cond.initialized "GameCalculator$Thermograph") ∈ lw_all := lw_g (lw_at lw_m1 51 rfl) rfl
theorem q383 : (Jvm.Cond.fieldLinkNest "GameCalculator$Thermograph" (25 : Nat) "GameCalculator$Form" "count" "I" "GameCalculator") ∈ lw_tbl := lw_at lw_m2 12 rfl
theorem q387 : (Jvm.Cond.fieldLinkNest "GameCalculator$Thermograph" (50 : Nat) "GameCalculator$Form" "lefts" "[I" "GameCalculator") ∈ lw_tbl := lw_at lw_m2 16 rfl
theorem q391 : (Jvm.Cond.fieldLinkNest "GameCalculator$Thermograph" (61 : Nat) "GameCalculator$Form" "rights" "[I" "GameCalculator") ∈ lw_tbl := lw_at lw_m2 20 rfl
theorem q827 : (Jvm.Cond.selects "GameCalculator$Thermograph" ({ cls := "java/lang/Object", name := "getClass", desc := "()Ljava/lang/Class;" } : Jvm.MethodName) ({ cls := "java/lang/Object", name := "getClass", desc := "()Ljava/lang/Class;" } : Jvm.MethodName)) ∈ lw_all := lw_g (lw_at lw_m3 216 rfl) rfl
theorem q2194 : (Jvm.Cond.instantiable "GameCalculator$Thermograph" (5 : Nat)) ∈ lw_all := lw_g (lw_at lw_m9 143 rfl) rfl
theorem q2196 : (Jvm.Cond.instanceMethod ({ cls := "GameCalculator$Thermograph", name := "<init>", desc := "(LGameCalculator$Form;)V" } : Jvm.MethodName)) ∈ lw_all := lw_g (lw_at lw_m9 145 rfl) rfl
theorem q2197 : (Jvm.Cond.code ({ cls := "GameCalculator$Thermograph", name := "<init>", desc := "(LGameCalculator$Form;)V" } : Jvm.MethodName) prog_14_method_1_code (6 : Nat) (Option.none : Option Jvm.ClassFile.FieldType)) ∈ lw_all := lw_g (lw_at lw_m9 146 rfl) rfl
theorem q2198 : (Jvm.Cond.methodLink "GameCalculator$Thermograph" (3 : Nat) ({ cls := "java/lang/Object", name := "<init>", desc := "()V" } : Jvm.MethodName)) ∈ lw_all := lw_g (lw_at lw_m9 147 rfl) rfl
theorem q2199 : (Jvm.Cond.classLink "GameCalculator$Thermograph" (9 : Nat) "GameCalculator$Wall") ∈ lw_all := lw_g (lw_at lw_m9 148 rfl) rfl
theorem q2201 : (Jvm.Cond.methodLinkNest "GameCalculator$Thermograph" (11 : Nat) ({ cls := "GameCalculator$Wall", name := "<init>", desc := "()V" } : Jvm.MethodName) "GameCalculator") ∈ lw_tbl := lw_at lw_m9 150 rfl
theorem q2218 : (Jvm.Cond.methodLinkNest "GameCalculator$Thermograph" (21 : Nat) ({ cls := "GameCalculator", name := "values", desc := "(LGameCalculator$Form;)[J" } : Jvm.MethodName) "GameCalculator") ∈ lw_tbl := lw_at lw_m9 167 rfl
theorem q2220 : (Jvm.Cond.constantLong "GameCalculator$Thermograph" (38 : Nat) (-9223372036854775808 : Int64)) ∈ lw_all := lw_g (lw_at lw_m9 169 rfl) rfl
theorem q2221 : (Jvm.Cond.methodLink "GameCalculator$Thermograph" (40 : Nat) ({ cls := "GameCalculator$Wall", name := "constant", desc := "(J)LGameCalculator$Wall;" } : Jvm.MethodName)) ∈ lw_all := lw_g (lw_at lw_m9 170 rfl) rfl
theorem q2234 : (Jvm.Cond.constantLong "GameCalculator$Thermograph" (44 : Nat) (-1 : Int64)) ∈ lw_all := lw_g (lw_at lw_m9 183 rfl) rfl
theorem q2235 : (Jvm.Cond.methodLink "GameCalculator$Thermograph" (54 : Nat) ({ cls := "GameCalculator$Thermograph", name := "best", desc := "(IJ[LGameCalculator$Wall;)LGameCalculator$Wall;" } : Jvm.MethodName)) ∈ lw_all := lw_g (lw_at lw_m9 184 rfl) rfl
theorem q2236 : (Jvm.Cond.privateMethod ({ cls := "GameCalculator$Thermograph", name := "best", desc := "(IJ[LGameCalculator$Wall;)LGameCalculator$Wall;" } : Jvm.MethodName)) ∈ lw_tbl := lw_at lw_m9 185 rfl
theorem q2237 : (Jvm.Cond.instanceMethod ({ cls := "GameCalculator$Thermograph", name := "best", desc := "(IJ[LGameCalculator$Wall;)LGameCalculator$Wall;" } : Jvm.MethodName)) ∈ lw_all := lw_g (lw_at lw_m9 186 rfl) rfl
theorem q2238 : (Jvm.Cond.code ({ cls := "GameCalculator$Thermograph", name := "best", desc := "(IJ[LGameCalculator$Wall;)LGameCalculator$Wall;" } : Jvm.MethodName) prog_14_method_2_code (8 : Nat) (Option.some (Jvm.ClassFile.FieldType.object "GameCalculator$Wall"))) ∈ lw_all := lw_g (lw_at lw_m9 187 rfl) rfl
theorem q2239 : (Jvm.Cond.methodLink "GameCalculator$Thermograph" (71 : Nat) ({ cls := "java/lang/Integer", name := "numberOfTrailingZeros", desc := "(I)I" } : Jvm.MethodName)) ∈ lw_all := lw_g (lw_at lw_m9 188 rfl) rfl
theorem q2240 : (Jvm.Cond.methodLink "GameCalculator$Thermograph" (77 : Nat) ({ cls := "GameCalculator$Wall", name := "becomeBest", desc := "(LGameCalculator$Wall;LGameCalculator$Wall;J)V" } : Jvm.MethodName)) ∈ lw_all := lw_g (lw_at lw_m9 189 rfl) rfl
theorem q2265 : (Jvm.Cond.methodLink "GameCalculator$Thermograph" (58 : Nat) ({ cls := "GameCalculator$Wall", name := "tilted", desc := "(J)LGameCalculator$Wall;" } : Jvm.MethodName)) ∈ lw_all := lw_g (lw_at lw_m9 214 rfl) rfl
theorem q2269 : (Jvm.Cond.methodLink "GameCalculator$Thermograph" (64 : Nat) ({ cls := "GameCalculator$Thermograph", name := "meeting", desc := "(LGameCalculator$Wall;LGameCalculator$Wall;)J" } : Jvm.MethodName)) ∈ lw_all := lw_g (lw_at lw_m9 218 rfl) rfl
theorem q2270 : (Jvm.Cond.static ({ cls := "GameCalculator$Thermograph", name := "meeting", desc := "(LGameCalculator$Wall;LGameCalculator$Wall;)J" } : Jvm.MethodName)) ∈ lw_all := lw_g (lw_at lw_m9 219 rfl) rfl
theorem q2271 : (Jvm.Cond.code ({ cls := "GameCalculator$Thermograph", name := "meeting", desc := "(LGameCalculator$Wall;LGameCalculator$Wall;)J" } : Jvm.MethodName) prog_14_method_3_code (10 : Nat) (Option.some Jvm.ClassFile.FieldType.long)) ∈ lw_all := lw_g (lw_at lw_m9 220 rfl) rfl
theorem q2272 : (Jvm.Cond.methodLink "GameCalculator$Thermograph" (81 : Nat) ({ cls := "GameCalculator$Wall", name := "at", desc := "(J)J" } : Jvm.MethodName)) ∈ lw_all := lw_g (lw_at lw_m9 221 rfl) rfl
theorem q2273 : (Jvm.Cond.methodLink "GameCalculator$Thermograph" (85 : Nat) ({ cls := "GameCalculator$Wall", name := "nextTime", desc := "(LGameCalculator$Wall;LGameCalculator$Wall;J)J" } : Jvm.MethodName)) ∈ lw_all := lw_g (lw_at lw_m9 222 rfl) rfl
theorem q2274 : (Jvm.Cond.constantLong "GameCalculator$Thermograph" (89 : Nat) (2 : Int64)) ∈ lw_all := lw_g (lw_at lw_m9 223 rfl) rfl
theorem q2275 : (Jvm.Cond.methodLink "GameCalculator$Thermograph" (68 : Nat) ({ cls := "GameCalculator$Wall", name := "cut", desc := "(J)LGameCalculator$Wall;" } : Jvm.MethodName)) ∈ lw_all := lw_g (lw_at lw_m9 224 rfl) rfl
theorem q2279 : (Jvm.Cond.fieldLink "GameCalculator$Thermograph" (31 : Nat) "GameCalculator$Thermograph" "left" "[LGameCalculator$Wall;") ∈ lw_all := lw_g (lw_at lw_m9 228 rfl) rfl
theorem q2280 : (Jvm.Cond.fieldLink "GameCalculator$Thermograph" (35 : Nat) "GameCalculator$Thermograph" "right" "[LGameCalculator$Wall;") ∈ lw_all := lw_g (lw_at lw_m9 229 rfl) rfl
theorem q2281 : (Jvm.Cond.fieldLink "GameCalculator$Thermograph" (46 : Nat) "GameCalculator$Thermograph" "temperature" "J") ∈ lw_all := lw_g (lw_at lw_m9 230 rfl) rfl
theorem q2283 : (Jvm.Cond.fieldLink "GameCalculator$Thermograph" (12 : Nat) "GameCalculator$Thermograph" "even" "LGameCalculator$Wall;") ∈ lw_all := lw_g (lw_at lw_m9 232 rfl) rfl
theorem q2284 : (Jvm.Cond.fieldLink "GameCalculator$Thermograph" (18 : Nat) "GameCalculator$Thermograph" "odd" "LGameCalculator$Wall;") ∈ lw_all := lw_g (lw_at lw_m9 233 rfl) rfl
theorem q2285 : (Jvm.Cond.laysFinal "GameCalculator$Thermograph" "GameCalculator$Thermograph" "left" "[LGameCalculator$Wall;") ∈ lw_all := lw_g (lw_at lw_m9 234 rfl) rfl
theorem q2286 : (Jvm.Cond.soleField "GameCalculator$Thermograph" "left") ∈ lw_all := lw_g (lw_at lw_m9 235 rfl) rfl
theorem q2287 : (Jvm.Cond.laysFinal "GameCalculator$Thermograph" "GameCalculator$Thermograph" "right" "[LGameCalculator$Wall;") ∈ lw_all := lw_g (lw_at lw_m9 236 rfl) rfl
theorem q2288 : (Jvm.Cond.soleField "GameCalculator$Thermograph" "right") ∈ lw_all := lw_g (lw_at lw_m9 237 rfl) rfl
theorem q2289 : (Jvm.Cond.lays "GameCalculator$Thermograph" "GameCalculator$Thermograph" "temperature" "J") ∈ lw_all := lw_g (lw_at lw_m9 238 rfl) rfl
theorem q2290 : (Jvm.Cond.soleField "GameCalculator$Thermograph" "temperature") ∈ lw_all := lw_g (lw_at lw_m9 239 rfl) rfl
theorem q2291 : (Jvm.Cond.laysFinal "GameCalculator$Thermograph" "GameCalculator$Thermograph" "even" "LGameCalculator$Wall;") ∈ lw_all := lw_g (lw_at lw_m10 0 rfl) rfl
theorem q2292 : (Jvm.Cond.soleField "GameCalculator$Thermograph" "even") ∈ lw_all := lw_g (lw_at lw_m10 1 rfl) rfl
theorem q2293 : (Jvm.Cond.laysFinal "GameCalculator$Thermograph" "GameCalculator$Thermograph" "odd" "LGameCalculator$Wall;") ∈ lw_all := lw_g (lw_at lw_m10 2 rfl) rfl
theorem q2294 : (Jvm.Cond.soleField "GameCalculator$Thermograph" "odd") ∈ lw_all := lw_g (lw_at lw_m10 3 rfl) rfl
theorem q2295 : (Jvm.Cond.superclass "GameCalculator$Thermograph" "java/lang/Object") ∈ lw_all := lw_g (lw_at lw_m10 4 rfl) rfl
theorem q2297 : (Jvm.Cond.instanceMethod ({ cls := "GameCalculator$Thermograph", name := "at", desc := "(IJ)J" } : Jvm.MethodName)) ∈ lw_all := lw_g (lw_at lw_m10 6 rfl) rfl
theorem q2298 : (Jvm.Cond.selects "GameCalculator$Thermograph" ({ cls := "GameCalculator$Thermograph", name := "at", desc := "(IJ)J" } : Jvm.MethodName) ({ cls := "GameCalculator$Thermograph", name := "at", desc := "(IJ)J" } : Jvm.MethodName)) ∈ lw_all := lw_g (lw_at lw_m10 7 rfl) rfl
theorem q2299 : (Jvm.Cond.code ({ cls := "GameCalculator$Thermograph", name := "at", desc := "(IJ)J" } : Jvm.MethodName) prog_14_method_4_code (4 : Nat) (Option.some Jvm.ClassFile.FieldType.long)) ∈ lw_all := lw_g (lw_at lw_m10 8 rfl) rfl
theorem q3026 : (Jvm.Cond.castable "GameCalculator$Thermograph" "java/lang/Object") ∈ lw_tbl := lw_at lw_m13 15 rfl
theorem in_X14 : ∀ w ∈ wsX140, w ∈ lw_all := lw_in wsX140 [2285, 2287, 2289, 2291, 2293] (by decide +kernel) (by decide +kernel)
/-! GameCalculator$Wall -/
set_option maxRecDepth 100000
def RX15 : String := "GameCalculator$Wall"
def TX15 : u_T := fun k => match k with
  | 0 => ("GameCalculator$Wall", "times", "[J", false)
  | 1 => ("GameCalculator$Wall", "values", "[J", false)
  | 2 => ("GameCalculator$Wall", "size", "I", false)
  | _ => ("GameCalculator$Wall", "slope", "J", false)
def tyX15 : Nat → FieldType := fun k => match k with
  | 0 => .array .long
  | 1 => .array .long
  | 2 => .int
  | _ => .long
abbrev wsX150 : List Cond := u_ws RX15 TX15 4
theorem nmX15 : ∀ a, a < 4 → ∀ b, b < 4 → a ≠ b → (TX15 a).2.1 ≠ (TX15 b).2.1 := by decide +kernel
theorem tyX15_ok : ∀ k, k < 4 → parseFieldDescriptor (TX15 k).2.2.1 = some (tyX15 k) := by decide +kernel
abbrev cX15_init : ByteArray := prog_16_method_1_code
def yX15_init : MethodName := ⟨RX15, "<init>", "()V"⟩
def dkwX15_init_0 : List UInt8 := [42, 183, 0, 1, 42, 7, 188, 11, 181, 0, 7, 42, 7, 188, 11, 181, 0, 13, 177]
abbrev dktX15_init_0 : List UInt8 := dkwX15_init_0 ++ []
theorem dksX15_init_0 : cX15_init.data.toList.drop 0 = dktX15_init_0 := by decide +kernel
theorem dX15_init_0 : decode cX15_init 0 = .ok (.aload_n 0, 1) := dk_42 (dk_at dksX15_init_0 0 rfl rfl)
theorem dX15_init_1 : decode cX15_init 1 = .ok (.invokespecial 1, 3) := dk_183 0 1 (dk_at dksX15_init_0 1 rfl rfl)
theorem dX15_init_4 : decode cX15_init 4 = .ok (.aload_n 0, 1) := dk_42 (dk_at dksX15_init_0 4 rfl rfl)
theorem dX15_init_5 : decode cX15_init 5 = .ok (.iconst 4, 1) := dk_7 (dk_at dksX15_init_0 5 rfl rfl)
theorem dX15_init_6 : decode cX15_init 6 = .ok (.newarray .long, 2) := dk_188_11 (dk_at dksX15_init_0 6 rfl rfl)
theorem dX15_init_8 : decode cX15_init 8 = .ok (.putfield 7, 3) := dk_181 0 7 (dk_at dksX15_init_0 8 rfl rfl)
theorem dX15_init_11 : decode cX15_init 11 = .ok (.aload_n 0, 1) := dk_42 (dk_at dksX15_init_0 11 rfl rfl)
theorem dX15_init_12 : decode cX15_init 12 = .ok (.iconst 4, 1) := dk_7 (dk_at dksX15_init_0 12 rfl rfl)
theorem dX15_init_13 : decode cX15_init 13 = .ok (.newarray .long, 2) := dk_188_11 (dk_at dksX15_init_0 13 rfl rfl)
theorem dX15_init_15 : decode cX15_init 15 = .ok (.putfield 13, 3) := dk_181 0 13 (dk_at dksX15_init_0 15 rfl rfl)
theorem dX15_init_18 : decode cX15_init 18 = .ok (.return_, 1) := dk_177 (dk_at dksX15_init_0 18 rfl rfl)
abbrev cX15_constant : ByteArray := prog_16_method_4_code
def yX15_constant : MethodName := ⟨RX15, "constant", "(J)LGameCalculator$Wall;"⟩
def dkwX15_constant_0 : List UInt8 := [187, 0, 8, 89, 183, 0, 30, 77, 44, 9, 30, 182, 0, 31, 44, 176]
abbrev dktX15_constant_0 : List UInt8 := dkwX15_constant_0 ++ []
theorem dksX15_constant_0 : cX15_constant.data.toList.drop 0 = dktX15_constant_0 := by decide +kernel
theorem dX15_constant_0 : decode cX15_constant 0 = .ok (.new 8, 3) := dk_187 0 8 (dk_at dksX15_constant_0 0 rfl rfl)
theorem dX15_constant_3 : decode cX15_constant 3 = .ok (.dup, 1) := dk_89 (dk_at dksX15_constant_0 3 rfl rfl)
theorem dX15_constant_4 : decode cX15_constant 4 = .ok (.invokespecial 30, 3) := dk_183 0 30 (dk_at dksX15_constant_0 4 rfl rfl)
theorem dX15_constant_7 : decode cX15_constant 7 = .ok (.astore_n 2, 1) := dk_77 (dk_at dksX15_constant_0 7 rfl rfl)
theorem dX15_constant_8 : decode cX15_constant 8 = .ok (.aload_n 2, 1) := dk_44 (dk_at dksX15_constant_0 8 rfl rfl)
theorem dX15_constant_9 : decode cX15_constant 9 = .ok (.lconst 0, 1) := dk_9 (dk_at dksX15_constant_0 9 rfl rfl)
theorem dX15_constant_10 : decode cX15_constant 10 = .ok (.lload_n 0, 1) := dk_30 (dk_at dksX15_constant_0 10 rfl rfl)
theorem dX15_constant_11 : decode cX15_constant 11 = .ok (.invokevirtual 31, 3) := dk_182 0 31 (dk_at dksX15_constant_0 11 rfl rfl)
theorem dX15_constant_14 : decode cX15_constant 14 = .ok (.aload_n 2, 1) := dk_44 (dk_at dksX15_constant_0 14 rfl rfl)
theorem dX15_constant_15 : decode cX15_constant 15 = .ok (.areturn, 1) := dk_176 (dk_at dksX15_constant_0 15 rfl rfl)
abbrev cX15_add : ByteArray := prog_16_method_2_code
def yX15_add : MethodName := ⟨RX15, "add", "(JJ)V"⟩
def dkwX15_add_2 : List UInt8 := [42, 180, 0, 16, 33, 80, 42, 89, 180, 0, 16, 4, 96, 181, 0, 16, 177]
abbrev dktX15_add_2 : List UInt8 := dkwX15_add_2 ++ []
def dkwX15_add_1 : List UInt8 := [42, 180, 0, 13, 184, 0, 20, 181, 0, 13, 42, 180, 0, 7, 42, 180, 0, 16, 31, 80, 42, 180, 0, 13]
abbrev dktX15_add_1 : List UInt8 := dkwX15_add_1 ++ dktX15_add_2
def dkwX15_add_0 : List UInt8 := [42, 180, 0, 16, 42, 180, 0, 7, 190, 160, 0, 25, 42, 42, 180, 0, 7, 184, 0, 20, 181, 0, 7, 42]
abbrev dktX15_add_0 : List UInt8 := dkwX15_add_0 ++ dktX15_add_1
theorem dksX15_add_0 : cX15_add.data.toList.drop 0 = dktX15_add_0 := by decide +kernel
theorem dksX15_add_1 : cX15_add.data.toList.drop 24 = dktX15_add_1 := dk_seg dksX15_add_0 24 rfl rfl
theorem dksX15_add_2 : cX15_add.data.toList.drop 48 = dktX15_add_2 := dk_seg dksX15_add_1 24 rfl rfl
theorem dX15_add_0 : decode cX15_add 0 = .ok (.aload_n 0, 1) := dk_42 (dk_at dksX15_add_0 0 rfl rfl)
theorem dX15_add_1 : decode cX15_add 1 = .ok (.getfield 16, 3) := dk_180 0 16 (dk_at dksX15_add_0 1 rfl rfl)
theorem dX15_add_4 : decode cX15_add 4 = .ok (.aload_n 0, 1) := dk_42 (dk_at dksX15_add_0 4 rfl rfl)
theorem dX15_add_5 : decode cX15_add 5 = .ok (.getfield 7, 3) := dk_180 0 7 (dk_at dksX15_add_0 5 rfl rfl)
theorem dX15_add_8 : decode cX15_add 8 = .ok (.arraylength, 1) := dk_190 (dk_at dksX15_add_0 8 rfl rfl)
theorem dX15_add_9 : decode cX15_add 9 = .ok (.if_icmp .ne 25, 3) := dk_160 0 25 (dk_at dksX15_add_0 9 rfl rfl)
theorem dX15_add_12 : decode cX15_add 12 = .ok (.aload_n 0, 1) := dk_42 (dk_at dksX15_add_0 12 rfl rfl)
theorem dX15_add_13 : decode cX15_add 13 = .ok (.aload_n 0, 1) := dk_42 (dk_at dksX15_add_0 13 rfl rfl)
theorem dX15_add_14 : decode cX15_add 14 = .ok (.getfield 7, 3) := dk_180 0 7 (dk_at dksX15_add_0 14 rfl rfl)
theorem dX15_add_17 : decode cX15_add 17 = .ok (.invokestatic 20, 3) := dk_184 0 20 (dk_at dksX15_add_0 17 rfl rfl)
theorem dX15_add_20 : decode cX15_add 20 = .ok (.putfield 7, 3) := dk_181 0 7 (dk_at dksX15_add_0 20 rfl rfl)
theorem dX15_add_23 : decode cX15_add 23 = .ok (.aload_n 0, 1) := dk_42 (dk_at dksX15_add_0 23 rfl rfl)
theorem dX15_add_24 : decode cX15_add 24 = .ok (.aload_n 0, 1) := dk_42 (dk_at dksX15_add_1 0 rfl rfl)
theorem dX15_add_25 : decode cX15_add 25 = .ok (.getfield 13, 3) := dk_180 0 13 (dk_at dksX15_add_1 1 rfl rfl)
theorem dX15_add_28 : decode cX15_add 28 = .ok (.invokestatic 20, 3) := dk_184 0 20 (dk_at dksX15_add_1 4 rfl rfl)
theorem dX15_add_31 : decode cX15_add 31 = .ok (.putfield 13, 3) := dk_181 0 13 (dk_at dksX15_add_1 7 rfl rfl)
theorem dX15_add_34 : decode cX15_add 34 = .ok (.aload_n 0, 1) := dk_42 (dk_at dksX15_add_1 10 rfl rfl)
theorem dX15_add_35 : decode cX15_add 35 = .ok (.getfield 7, 3) := dk_180 0 7 (dk_at dksX15_add_1 11 rfl rfl)
theorem dX15_add_38 : decode cX15_add 38 = .ok (.aload_n 0, 1) := dk_42 (dk_at dksX15_add_1 14 rfl rfl)
theorem dX15_add_39 : decode cX15_add 39 = .ok (.getfield 16, 3) := dk_180 0 16 (dk_at dksX15_add_1 15 rfl rfl)
theorem dX15_add_42 : decode cX15_add 42 = .ok (.lload_n 1, 1) := dk_31 (dk_at dksX15_add_1 18 rfl rfl)
theorem dX15_add_43 : decode cX15_add 43 = .ok (.lastore, 1) := dk_80 (dk_at dksX15_add_1 19 rfl rfl)
theorem dX15_add_44 : decode cX15_add 44 = .ok (.aload_n 0, 1) := dk_42 (dk_at dksX15_add_1 20 rfl rfl)
theorem dX15_add_45 : decode cX15_add 45 = .ok (.getfield 13, 3) := dk_180 0 13 (dk_at dksX15_add_1 21 rfl rfl)
theorem dX15_add_48 : decode cX15_add 48 = .ok (.aload_n 0, 1) := dk_42 (dk_at dksX15_add_2 0 rfl rfl)
theorem dX15_add_49 : decode cX15_add 49 = .ok (.getfield 16, 3) := dk_180 0 16 (dk_at dksX15_add_2 1 rfl rfl)
theorem dX15_add_52 : decode cX15_add 52 = .ok (.lload_n 3, 1) := dk_33 (dk_at dksX15_add_2 4 rfl rfl)
theorem dX15_add_53 : decode cX15_add 53 = .ok (.lastore, 1) := dk_80 (dk_at dksX15_add_2 5 rfl rfl)
theorem dX15_add_54 : decode cX15_add 54 = .ok (.aload_n 0, 1) := dk_42 (dk_at dksX15_add_2 6 rfl rfl)
theorem dX15_add_55 : decode cX15_add 55 = .ok (.dup, 1) := dk_89 (dk_at dksX15_add_2 7 rfl rfl)
theorem dX15_add_56 : decode cX15_add 56 = .ok (.getfield 16, 3) := dk_180 0 16 (dk_at dksX15_add_2 8 rfl rfl)
theorem dX15_add_59 : decode cX15_add 59 = .ok (.iconst 1, 1) := dk_4 (dk_at dksX15_add_2 11 rfl rfl)
theorem dX15_add_60 : decode cX15_add 60 = .ok (.iadd, 1) := dk_96 (dk_at dksX15_add_2 12 rfl rfl)
theorem dX15_add_61 : decode cX15_add 61 = .ok (.putfield 16, 3) := dk_181 0 16 (dk_at dksX15_add_2 13 rfl rfl)
theorem dX15_add_64 : decode cX15_add 64 = .ok (.return_, 1) := dk_177 (dk_at dksX15_add_2 16 rfl rfl)
abbrev cX15_longer : ByteArray := prog_16_method_3_code
def yX15_longer : MethodName := ⟨RX15, "longer", "([J)[J"⟩
def dkwX15_longer_0 : List UInt8 := [5, 42, 190, 104, 188, 11, 76, 42, 3, 43, 3, 42, 190, 184, 0, 24, 43, 176]
abbrev dktX15_longer_0 : List UInt8 := dkwX15_longer_0 ++ []
theorem dksX15_longer_0 : cX15_longer.data.toList.drop 0 = dktX15_longer_0 := by decide +kernel
theorem dX15_longer_0 : decode cX15_longer 0 = .ok (.iconst 2, 1) := dk_5 (dk_at dksX15_longer_0 0 rfl rfl)
theorem dX15_longer_1 : decode cX15_longer 1 = .ok (.aload_n 0, 1) := dk_42 (dk_at dksX15_longer_0 1 rfl rfl)
theorem dX15_longer_2 : decode cX15_longer 2 = .ok (.arraylength, 1) := dk_190 (dk_at dksX15_longer_0 2 rfl rfl)
theorem dX15_longer_3 : decode cX15_longer 3 = .ok (.imul, 1) := dk_104 (dk_at dksX15_longer_0 3 rfl rfl)
theorem dX15_longer_4 : decode cX15_longer 4 = .ok (.newarray .long, 2) := dk_188_11 (dk_at dksX15_longer_0 4 rfl rfl)
theorem dX15_longer_6 : decode cX15_longer 6 = .ok (.astore_n 1, 1) := dk_76 (dk_at dksX15_longer_0 6 rfl rfl)
theorem dX15_longer_7 : decode cX15_longer 7 = .ok (.aload_n 0, 1) := dk_42 (dk_at dksX15_longer_0 7 rfl rfl)
theorem dX15_longer_8 : decode cX15_longer 8 = .ok (.iconst 0, 1) := dk_3 (dk_at dksX15_longer_0 8 rfl rfl)
theorem dX15_longer_9 : decode cX15_longer 9 = .ok (.aload_n 1, 1) := dk_43 (dk_at dksX15_longer_0 9 rfl rfl)
theorem dX15_longer_10 : decode cX15_longer 10 = .ok (.iconst 0, 1) := dk_3 (dk_at dksX15_longer_0 10 rfl rfl)
theorem dX15_longer_11 : decode cX15_longer 11 = .ok (.aload_n 0, 1) := dk_42 (dk_at dksX15_longer_0 11 rfl rfl)
theorem dX15_longer_12 : decode cX15_longer 12 = .ok (.arraylength, 1) := dk_190 (dk_at dksX15_longer_0 12 rfl rfl)
theorem dX15_longer_13 : decode cX15_longer 13 = .ok (.invokestatic 24, 3) := dk_184 0 24 (dk_at dksX15_longer_0 13 rfl rfl)
theorem dX15_longer_16 : decode cX15_longer 16 = .ok (.aload_n 1, 1) := dk_43 (dk_at dksX15_longer_0 16 rfl rfl)
theorem dX15_longer_17 : decode cX15_longer 17 = .ok (.areturn, 1) := dk_176 (dk_at dksX15_longer_0 17 rfl rfl)
abbrev cX15_becomeBest : ByteArray := prog_16_method_10_code
def yX15_becomeBest : MethodName := ⟨RX15, "becomeBest", "(LGameCalculator$Wall;LGameCalculator$Wall;J)V"⟩
def dkwX15_becomeBest_6 : List UInt8 := [43, 22, 13, 182, 0, 51, 182, 0, 31, 22, 9, 55, 5, 167, 255, 113, 177]
abbrev dktX15_becomeBest_6 : List UInt8 := dkwX15_becomeBest_6 ++ []
def dkwX15_becomeBest_5 : List UInt8 := [148, 158, 0, 32, 22, 11, 9, 148, 156, 0, 25, 22, 5, 22, 7, 184, 0, 59, 97, 55, 13, 42, 22, 13]
abbrev dktX15_becomeBest_5 : List UInt8 := dkwX15_becomeBest_5 ++ dktX15_becomeBest_6
def dkwX15_becomeBest_4 : List UInt8 := [182, 0, 51, 101, 105, 55, 11, 22, 7, 9, 148, 156, 0, 10, 22, 11, 9, 148, 157, 0, 17, 22, 7, 9]
abbrev dktX15_becomeBest_4 : List UInt8 := dkwX15_becomeBest_4 ++ dktX15_becomeBest_5
def dkwX15_becomeBest_3 : List UInt8 := [55, 9, 22, 9, 9, 148, 156, 0, 7, 9, 167, 0, 18, 33, 43, 22, 9, 182, 0, 51, 44, 22, 9]
abbrev dktX15_becomeBest_3 : List UInt8 := dkwX15_becomeBest_3 ++ dktX15_becomeBest_4
def dkwX15_becomeBest_2 : List UInt8 := [22, 5, 182, 0, 51, 167, 0, 9, 44, 22, 5, 182, 0, 51, 182, 0, 31, 43, 44, 22, 5, 184, 0, 55]
abbrev dktX15_becomeBest_2 : List UInt8 := dkwX15_becomeBest_2 ++ dktX15_becomeBest_3
def dkwX15_becomeBest_1 : List UInt8 := [182, 0, 51, 44, 22, 5, 182, 0, 51, 101, 105, 55, 7, 42, 22, 5, 22, 7, 9, 148, 155, 0, 12, 43]
abbrev dktX15_becomeBest_1 : List UInt8 := dkwX15_becomeBest_1 ++ dktX15_becomeBest_2
def dkwX15_becomeBest_0 : List UInt8 := [42, 3, 181, 0, 16, 42, 9, 181, 0, 45, 9, 55, 5, 22, 5, 9, 148, 155, 0, 142, 33, 43, 22, 5]
abbrev dktX15_becomeBest_0 : List UInt8 := dkwX15_becomeBest_0 ++ dktX15_becomeBest_1
theorem dksX15_becomeBest_0 : cX15_becomeBest.data.toList.drop 0 = dktX15_becomeBest_0 := by decide +kernel
theorem dksX15_becomeBest_1 : cX15_becomeBest.data.toList.drop 24 = dktX15_becomeBest_1 := dk_seg dksX15_becomeBest_0 24 rfl rfl
theorem dksX15_becomeBest_2 : cX15_becomeBest.data.toList.drop 48 = dktX15_becomeBest_2 := dk_seg dksX15_becomeBest_1 24 rfl rfl
theorem dksX15_becomeBest_3 : cX15_becomeBest.data.toList.drop 72 = dktX15_becomeBest_3 := dk_seg dksX15_becomeBest_2 24 rfl rfl
theorem dksX15_becomeBest_4 : cX15_becomeBest.data.toList.drop 95 = dktX15_becomeBest_4 := dk_seg dksX15_becomeBest_3 23 rfl rfl
theorem dksX15_becomeBest_5 : cX15_becomeBest.data.toList.drop 119 = dktX15_becomeBest_5 := dk_seg dksX15_becomeBest_4 24 rfl rfl
theorem dksX15_becomeBest_6 : cX15_becomeBest.data.toList.drop 143 = dktX15_becomeBest_6 := dk_seg dksX15_becomeBest_5 24 rfl rfl
theorem dX15_becomeBest_0 : decode cX15_becomeBest 0 = .ok (.aload_n 0, 1) := dk_42 (dk_at dksX15_becomeBest_0 0 rfl rfl)
theorem dX15_becomeBest_1 : decode cX15_becomeBest 1 = .ok (.iconst 0, 1) := dk_3 (dk_at dksX15_becomeBest_0 1 rfl rfl)
theorem dX15_becomeBest_2 : decode cX15_becomeBest 2 = .ok (.putfield 16, 3) := dk_181 0 16 (dk_at dksX15_becomeBest_0 2 rfl rfl)
theorem dX15_becomeBest_5 : decode cX15_becomeBest 5 = .ok (.aload_n 0, 1) := dk_42 (dk_at dksX15_becomeBest_0 5 rfl rfl)
theorem dX15_becomeBest_6 : decode cX15_becomeBest 6 = .ok (.lconst 0, 1) := dk_9 (dk_at dksX15_becomeBest_0 6 rfl rfl)
theorem dX15_becomeBest_7 : decode cX15_becomeBest 7 = .ok (.putfield 45, 3) := dk_181 0 45 (dk_at dksX15_becomeBest_0 7 rfl rfl)
theorem dX15_becomeBest_10 : decode cX15_becomeBest 10 = .ok (.lconst 0, 1) := dk_9 (dk_at dksX15_becomeBest_0 10 rfl rfl)
theorem dX15_becomeBest_11 : decode cX15_becomeBest 11 = .ok (.lstore 5, 2) := dk_55 5 (dk_at dksX15_becomeBest_0 11 rfl rfl)
theorem dX15_becomeBest_13 : decode cX15_becomeBest 13 = .ok (.lload 5, 2) := dk_22 5 (dk_at dksX15_becomeBest_0 13 rfl rfl)
theorem dX15_becomeBest_15 : decode cX15_becomeBest 15 = .ok (.lconst 0, 1) := dk_9 (dk_at dksX15_becomeBest_0 15 rfl rfl)
theorem dX15_becomeBest_16 : decode cX15_becomeBest 16 = .ok (.lcmp, 1) := dk_148 (dk_at dksX15_becomeBest_0 16 rfl rfl)
theorem dX15_becomeBest_17 : decode cX15_becomeBest 17 = .ok (.ifCond .lt 142, 3) := dk_155 0 142 (dk_at dksX15_becomeBest_0 17 rfl rfl)
theorem dX15_becomeBest_20 : decode cX15_becomeBest 20 = .ok (.lload_n 3, 1) := dk_33 (dk_at dksX15_becomeBest_0 20 rfl rfl)
theorem dX15_becomeBest_21 : decode cX15_becomeBest 21 = .ok (.aload_n 1, 1) := dk_43 (dk_at dksX15_becomeBest_0 21 rfl rfl)
theorem dX15_becomeBest_22 : decode cX15_becomeBest 22 = .ok (.lload 5, 2) := dk_22 5 (dk_at dksX15_becomeBest_0 22 rfl rfl)
theorem dX15_becomeBest_24 : decode cX15_becomeBest 24 = .ok (.invokevirtual 51, 3) := dk_182 0 51 (dk_at dksX15_becomeBest_1 0 rfl rfl)
theorem dX15_becomeBest_27 : decode cX15_becomeBest 27 = .ok (.aload_n 2, 1) := dk_44 (dk_at dksX15_becomeBest_1 3 rfl rfl)
theorem dX15_becomeBest_28 : decode cX15_becomeBest 28 = .ok (.lload 5, 2) := dk_22 5 (dk_at dksX15_becomeBest_1 4 rfl rfl)
theorem dX15_becomeBest_30 : decode cX15_becomeBest 30 = .ok (.invokevirtual 51, 3) := dk_182 0 51 (dk_at dksX15_becomeBest_1 6 rfl rfl)
theorem dX15_becomeBest_33 : decode cX15_becomeBest 33 = .ok (.lsub, 1) := dk_101 (dk_at dksX15_becomeBest_1 9 rfl rfl)
theorem dX15_becomeBest_34 : decode cX15_becomeBest 34 = .ok (.lmul, 1) := dk_105 (dk_at dksX15_becomeBest_1 10 rfl rfl)
theorem dX15_becomeBest_35 : decode cX15_becomeBest 35 = .ok (.lstore 7, 2) := dk_55 7 (dk_at dksX15_becomeBest_1 11 rfl rfl)
theorem dX15_becomeBest_37 : decode cX15_becomeBest 37 = .ok (.aload_n 0, 1) := dk_42 (dk_at dksX15_becomeBest_1 13 rfl rfl)
theorem dX15_becomeBest_38 : decode cX15_becomeBest 38 = .ok (.lload 5, 2) := dk_22 5 (dk_at dksX15_becomeBest_1 14 rfl rfl)
theorem dX15_becomeBest_40 : decode cX15_becomeBest 40 = .ok (.lload 7, 2) := dk_22 7 (dk_at dksX15_becomeBest_1 16 rfl rfl)
theorem dX15_becomeBest_42 : decode cX15_becomeBest 42 = .ok (.lconst 0, 1) := dk_9 (dk_at dksX15_becomeBest_1 18 rfl rfl)
theorem dX15_becomeBest_43 : decode cX15_becomeBest 43 = .ok (.lcmp, 1) := dk_148 (dk_at dksX15_becomeBest_1 19 rfl rfl)
theorem dX15_becomeBest_44 : decode cX15_becomeBest 44 = .ok (.ifCond .lt 12, 3) := dk_155 0 12 (dk_at dksX15_becomeBest_1 20 rfl rfl)
theorem dX15_becomeBest_47 : decode cX15_becomeBest 47 = .ok (.aload_n 1, 1) := dk_43 (dk_at dksX15_becomeBest_1 23 rfl rfl)
theorem dX15_becomeBest_48 : decode cX15_becomeBest 48 = .ok (.lload 5, 2) := dk_22 5 (dk_at dksX15_becomeBest_2 0 rfl rfl)
theorem dX15_becomeBest_50 : decode cX15_becomeBest 50 = .ok (.invokevirtual 51, 3) := dk_182 0 51 (dk_at dksX15_becomeBest_2 2 rfl rfl)
theorem dX15_becomeBest_53 : decode cX15_becomeBest 53 = .ok (.goto 9, 3) := dk_167 0 9 (dk_at dksX15_becomeBest_2 5 rfl rfl)
theorem dX15_becomeBest_56 : decode cX15_becomeBest 56 = .ok (.aload_n 2, 1) := dk_44 (dk_at dksX15_becomeBest_2 8 rfl rfl)
theorem dX15_becomeBest_57 : decode cX15_becomeBest 57 = .ok (.lload 5, 2) := dk_22 5 (dk_at dksX15_becomeBest_2 9 rfl rfl)
theorem dX15_becomeBest_59 : decode cX15_becomeBest 59 = .ok (.invokevirtual 51, 3) := dk_182 0 51 (dk_at dksX15_becomeBest_2 11 rfl rfl)
theorem dX15_becomeBest_62 : decode cX15_becomeBest 62 = .ok (.invokevirtual 31, 3) := dk_182 0 31 (dk_at dksX15_becomeBest_2 14 rfl rfl)
theorem dX15_becomeBest_65 : decode cX15_becomeBest 65 = .ok (.aload_n 1, 1) := dk_43 (dk_at dksX15_becomeBest_2 17 rfl rfl)
theorem dX15_becomeBest_66 : decode cX15_becomeBest 66 = .ok (.aload_n 2, 1) := dk_44 (dk_at dksX15_becomeBest_2 18 rfl rfl)
theorem dX15_becomeBest_67 : decode cX15_becomeBest 67 = .ok (.lload 5, 2) := dk_22 5 (dk_at dksX15_becomeBest_2 19 rfl rfl)
theorem dX15_becomeBest_69 : decode cX15_becomeBest 69 = .ok (.invokestatic 55, 3) := dk_184 0 55 (dk_at dksX15_becomeBest_2 21 rfl rfl)
theorem dX15_becomeBest_72 : decode cX15_becomeBest 72 = .ok (.lstore 9, 2) := dk_55 9 (dk_at dksX15_becomeBest_3 0 rfl rfl)
theorem dX15_becomeBest_74 : decode cX15_becomeBest 74 = .ok (.lload 9, 2) := dk_22 9 (dk_at dksX15_becomeBest_3 2 rfl rfl)
theorem dX15_becomeBest_76 : decode cX15_becomeBest 76 = .ok (.lconst 0, 1) := dk_9 (dk_at dksX15_becomeBest_3 4 rfl rfl)
theorem dX15_becomeBest_77 : decode cX15_becomeBest 77 = .ok (.lcmp, 1) := dk_148 (dk_at dksX15_becomeBest_3 5 rfl rfl)
theorem dX15_becomeBest_78 : decode cX15_becomeBest 78 = .ok (.ifCond .ge 7, 3) := dk_156 0 7 (dk_at dksX15_becomeBest_3 6 rfl rfl)
theorem dX15_becomeBest_81 : decode cX15_becomeBest 81 = .ok (.lconst 0, 1) := dk_9 (dk_at dksX15_becomeBest_3 9 rfl rfl)
theorem dX15_becomeBest_82 : decode cX15_becomeBest 82 = .ok (.goto 18, 3) := dk_167 0 18 (dk_at dksX15_becomeBest_3 10 rfl rfl)
theorem dX15_becomeBest_85 : decode cX15_becomeBest 85 = .ok (.lload_n 3, 1) := dk_33 (dk_at dksX15_becomeBest_3 13 rfl rfl)
theorem dX15_becomeBest_86 : decode cX15_becomeBest 86 = .ok (.aload_n 1, 1) := dk_43 (dk_at dksX15_becomeBest_3 14 rfl rfl)
theorem dX15_becomeBest_87 : decode cX15_becomeBest 87 = .ok (.lload 9, 2) := dk_22 9 (dk_at dksX15_becomeBest_3 15 rfl rfl)
theorem dX15_becomeBest_89 : decode cX15_becomeBest 89 = .ok (.invokevirtual 51, 3) := dk_182 0 51 (dk_at dksX15_becomeBest_3 17 rfl rfl)
theorem dX15_becomeBest_92 : decode cX15_becomeBest 92 = .ok (.aload_n 2, 1) := dk_44 (dk_at dksX15_becomeBest_3 20 rfl rfl)
theorem dX15_becomeBest_93 : decode cX15_becomeBest 93 = .ok (.lload 9, 2) := dk_22 9 (dk_at dksX15_becomeBest_3 21 rfl rfl)
theorem dX15_becomeBest_95 : decode cX15_becomeBest 95 = .ok (.invokevirtual 51, 3) := dk_182 0 51 (dk_at dksX15_becomeBest_4 0 rfl rfl)
theorem dX15_becomeBest_98 : decode cX15_becomeBest 98 = .ok (.lsub, 1) := dk_101 (dk_at dksX15_becomeBest_4 3 rfl rfl)
theorem dX15_becomeBest_99 : decode cX15_becomeBest 99 = .ok (.lmul, 1) := dk_105 (dk_at dksX15_becomeBest_4 4 rfl rfl)
theorem dX15_becomeBest_100 : decode cX15_becomeBest 100 = .ok (.lstore 11, 2) := dk_55 11 (dk_at dksX15_becomeBest_4 5 rfl rfl)
theorem dX15_becomeBest_102 : decode cX15_becomeBest 102 = .ok (.lload 7, 2) := dk_22 7 (dk_at dksX15_becomeBest_4 7 rfl rfl)
theorem dX15_becomeBest_104 : decode cX15_becomeBest 104 = .ok (.lconst 0, 1) := dk_9 (dk_at dksX15_becomeBest_4 9 rfl rfl)
theorem dX15_becomeBest_105 : decode cX15_becomeBest 105 = .ok (.lcmp, 1) := dk_148 (dk_at dksX15_becomeBest_4 10 rfl rfl)
theorem dX15_becomeBest_106 : decode cX15_becomeBest 106 = .ok (.ifCond .ge 10, 3) := dk_156 0 10 (dk_at dksX15_becomeBest_4 11 rfl rfl)
theorem dX15_becomeBest_109 : decode cX15_becomeBest 109 = .ok (.lload 11, 2) := dk_22 11 (dk_at dksX15_becomeBest_4 14 rfl rfl)
theorem dX15_becomeBest_111 : decode cX15_becomeBest 111 = .ok (.lconst 0, 1) := dk_9 (dk_at dksX15_becomeBest_4 16 rfl rfl)
theorem dX15_becomeBest_112 : decode cX15_becomeBest 112 = .ok (.lcmp, 1) := dk_148 (dk_at dksX15_becomeBest_4 17 rfl rfl)
theorem dX15_becomeBest_113 : decode cX15_becomeBest 113 = .ok (.ifCond .gt 17, 3) := dk_157 0 17 (dk_at dksX15_becomeBest_4 18 rfl rfl)
theorem dX15_becomeBest_116 : decode cX15_becomeBest 116 = .ok (.lload 7, 2) := dk_22 7 (dk_at dksX15_becomeBest_4 21 rfl rfl)
theorem dX15_becomeBest_118 : decode cX15_becomeBest 118 = .ok (.lconst 0, 1) := dk_9 (dk_at dksX15_becomeBest_4 23 rfl rfl)
theorem dX15_becomeBest_119 : decode cX15_becomeBest 119 = .ok (.lcmp, 1) := dk_148 (dk_at dksX15_becomeBest_5 0 rfl rfl)
theorem dX15_becomeBest_120 : decode cX15_becomeBest 120 = .ok (.ifCond .le 32, 3) := dk_158 0 32 (dk_at dksX15_becomeBest_5 1 rfl rfl)
theorem dX15_becomeBest_123 : decode cX15_becomeBest 123 = .ok (.lload 11, 2) := dk_22 11 (dk_at dksX15_becomeBest_5 4 rfl rfl)
theorem dX15_becomeBest_125 : decode cX15_becomeBest 125 = .ok (.lconst 0, 1) := dk_9 (dk_at dksX15_becomeBest_5 6 rfl rfl)
theorem dX15_becomeBest_126 : decode cX15_becomeBest 126 = .ok (.lcmp, 1) := dk_148 (dk_at dksX15_becomeBest_5 7 rfl rfl)
theorem dX15_becomeBest_127 : decode cX15_becomeBest 127 = .ok (.ifCond .ge 25, 3) := dk_156 0 25 (dk_at dksX15_becomeBest_5 8 rfl rfl)
theorem dX15_becomeBest_130 : decode cX15_becomeBest 130 = .ok (.lload 5, 2) := dk_22 5 (dk_at dksX15_becomeBest_5 11 rfl rfl)
theorem dX15_becomeBest_132 : decode cX15_becomeBest 132 = .ok (.lload 7, 2) := dk_22 7 (dk_at dksX15_becomeBest_5 13 rfl rfl)
theorem dX15_becomeBest_134 : decode cX15_becomeBest 134 = .ok (.invokestatic 59, 3) := dk_184 0 59 (dk_at dksX15_becomeBest_5 15 rfl rfl)
theorem dX15_becomeBest_137 : decode cX15_becomeBest 137 = .ok (.ladd, 1) := dk_97 (dk_at dksX15_becomeBest_5 18 rfl rfl)
theorem dX15_becomeBest_138 : decode cX15_becomeBest 138 = .ok (.lstore 13, 2) := dk_55 13 (dk_at dksX15_becomeBest_5 19 rfl rfl)
theorem dX15_becomeBest_140 : decode cX15_becomeBest 140 = .ok (.aload_n 0, 1) := dk_42 (dk_at dksX15_becomeBest_5 21 rfl rfl)
theorem dX15_becomeBest_141 : decode cX15_becomeBest 141 = .ok (.lload 13, 2) := dk_22 13 (dk_at dksX15_becomeBest_5 22 rfl rfl)
theorem dX15_becomeBest_143 : decode cX15_becomeBest 143 = .ok (.aload_n 1, 1) := dk_43 (dk_at dksX15_becomeBest_6 0 rfl rfl)
theorem dX15_becomeBest_144 : decode cX15_becomeBest 144 = .ok (.lload 13, 2) := dk_22 13 (dk_at dksX15_becomeBest_6 1 rfl rfl)
theorem dX15_becomeBest_146 : decode cX15_becomeBest 146 = .ok (.invokevirtual 51, 3) := dk_182 0 51 (dk_at dksX15_becomeBest_6 3 rfl rfl)
theorem dX15_becomeBest_149 : decode cX15_becomeBest 149 = .ok (.invokevirtual 31, 3) := dk_182 0 31 (dk_at dksX15_becomeBest_6 6 rfl rfl)
theorem dX15_becomeBest_152 : decode cX15_becomeBest 152 = .ok (.lload 9, 2) := dk_22 9 (dk_at dksX15_becomeBest_6 9 rfl rfl)
theorem dX15_becomeBest_154 : decode cX15_becomeBest 154 = .ok (.lstore 5, 2) := dk_55 5 (dk_at dksX15_becomeBest_6 11 rfl rfl)
theorem dX15_becomeBest_156 : decode cX15_becomeBest 156 = .ok (.goto (-143), 3) := dk_167 255 113 (dk_at dksX15_becomeBest_6 13 rfl rfl)
theorem dX15_becomeBest_159 : decode cX15_becomeBest 159 = .ok (.return_, 1) := dk_177 (dk_at dksX15_becomeBest_6 16 rfl rfl)
abbrev cX15_at : ByteArray := prog_16_method_8_code
def yX15_at : MethodName := ⟨RX15, "at", "(J)J"⟩
def dkwX15_at_4 : List UInt8 := [29, 182, 0, 38, 101, 105, 97, 173]
abbrev dktX15_at_4 : List UInt8 := dkwX15_at_4 ++ []
def dkwX15_at_3 : List UInt8 := [29, 4, 96, 182, 0, 38, 42, 29, 182, 0, 38, 101, 109, 55, 4, 42, 29, 182, 0, 42, 22, 4, 31, 42]
abbrev dktX15_at_3 : List UInt8 := dkwX15_at_3 ++ dktX15_at_4
def dkwX15_at_2 : List UInt8 := [160, 0, 10, 42, 180, 0, 45, 167, 0, 30, 42, 29, 4, 96, 182, 0, 42, 42, 29, 182, 0, 42, 101, 42]
abbrev dktX15_at_2 : List UInt8 := dkwX15_at_2 ++ dktX15_at_3
def dkwX15_at_1 : List UInt8 := [29, 182, 0, 38, 31, 148, 154, 0, 9, 42, 29, 182, 0, 42, 173, 29, 4, 96, 42, 182, 0, 35]
abbrev dktX15_at_1 : List UInt8 := dkwX15_at_1 ++ dktX15_at_2
def dkwX15_at_0 : List UInt8 := [42, 182, 0, 35, 4, 100, 62, 42, 29, 182, 0, 38, 31, 148, 158, 0, 9, 132, 3, 255, 167, 255, 243, 42]
abbrev dktX15_at_0 : List UInt8 := dkwX15_at_0 ++ dktX15_at_1
theorem dksX15_at_0 : cX15_at.data.toList.drop 0 = dktX15_at_0 := by decide +kernel
theorem dksX15_at_1 : cX15_at.data.toList.drop 24 = dktX15_at_1 := dk_seg dksX15_at_0 24 rfl rfl
theorem dksX15_at_2 : cX15_at.data.toList.drop 46 = dktX15_at_2 := dk_seg dksX15_at_1 22 rfl rfl
theorem dksX15_at_3 : cX15_at.data.toList.drop 70 = dktX15_at_3 := dk_seg dksX15_at_2 24 rfl rfl
theorem dksX15_at_4 : cX15_at.data.toList.drop 94 = dktX15_at_4 := dk_seg dksX15_at_3 24 rfl rfl
theorem dX15_at_0 : decode cX15_at 0 = .ok (.aload_n 0, 1) := dk_42 (dk_at dksX15_at_0 0 rfl rfl)
theorem dX15_at_1 : decode cX15_at 1 = .ok (.invokevirtual 35, 3) := dk_182 0 35 (dk_at dksX15_at_0 1 rfl rfl)
theorem dX15_at_4 : decode cX15_at 4 = .ok (.iconst 1, 1) := dk_4 (dk_at dksX15_at_0 4 rfl rfl)
theorem dX15_at_5 : decode cX15_at 5 = .ok (.isub, 1) := dk_100 (dk_at dksX15_at_0 5 rfl rfl)
theorem dX15_at_6 : decode cX15_at 6 = .ok (.istore_n 3, 1) := dk_62 (dk_at dksX15_at_0 6 rfl rfl)
theorem dX15_at_7 : decode cX15_at 7 = .ok (.aload_n 0, 1) := dk_42 (dk_at dksX15_at_0 7 rfl rfl)
theorem dX15_at_8 : decode cX15_at 8 = .ok (.iload_n 3, 1) := dk_29 (dk_at dksX15_at_0 8 rfl rfl)
theorem dX15_at_9 : decode cX15_at 9 = .ok (.invokevirtual 38, 3) := dk_182 0 38 (dk_at dksX15_at_0 9 rfl rfl)
theorem dX15_at_12 : decode cX15_at 12 = .ok (.lload_n 1, 1) := dk_31 (dk_at dksX15_at_0 12 rfl rfl)
theorem dX15_at_13 : decode cX15_at 13 = .ok (.lcmp, 1) := dk_148 (dk_at dksX15_at_0 13 rfl rfl)
theorem dX15_at_14 : decode cX15_at 14 = .ok (.ifCond .le 9, 3) := dk_158 0 9 (dk_at dksX15_at_0 14 rfl rfl)
theorem dX15_at_17 : decode cX15_at 17 = .ok (.iinc 3 (-1), 3) := dk_132 3 255 (dk_at dksX15_at_0 17 rfl rfl)
theorem dX15_at_20 : decode cX15_at 20 = .ok (.goto (-13), 3) := dk_167 255 243 (dk_at dksX15_at_0 20 rfl rfl)
theorem dX15_at_23 : decode cX15_at 23 = .ok (.aload_n 0, 1) := dk_42 (dk_at dksX15_at_0 23 rfl rfl)
theorem dX15_at_24 : decode cX15_at 24 = .ok (.iload_n 3, 1) := dk_29 (dk_at dksX15_at_1 0 rfl rfl)
theorem dX15_at_25 : decode cX15_at 25 = .ok (.invokevirtual 38, 3) := dk_182 0 38 (dk_at dksX15_at_1 1 rfl rfl)
theorem dX15_at_28 : decode cX15_at 28 = .ok (.lload_n 1, 1) := dk_31 (dk_at dksX15_at_1 4 rfl rfl)
theorem dX15_at_29 : decode cX15_at 29 = .ok (.lcmp, 1) := dk_148 (dk_at dksX15_at_1 5 rfl rfl)
theorem dX15_at_30 : decode cX15_at 30 = .ok (.ifCond .ne 9, 3) := dk_154 0 9 (dk_at dksX15_at_1 6 rfl rfl)
theorem dX15_at_33 : decode cX15_at 33 = .ok (.aload_n 0, 1) := dk_42 (dk_at dksX15_at_1 9 rfl rfl)
theorem dX15_at_34 : decode cX15_at 34 = .ok (.iload_n 3, 1) := dk_29 (dk_at dksX15_at_1 10 rfl rfl)
theorem dX15_at_35 : decode cX15_at 35 = .ok (.invokevirtual 42, 3) := dk_182 0 42 (dk_at dksX15_at_1 11 rfl rfl)
theorem dX15_at_38 : decode cX15_at 38 = .ok (.lreturn, 1) := dk_173 (dk_at dksX15_at_1 14 rfl rfl)
theorem dX15_at_39 : decode cX15_at 39 = .ok (.iload_n 3, 1) := dk_29 (dk_at dksX15_at_1 15 rfl rfl)
theorem dX15_at_40 : decode cX15_at 40 = .ok (.iconst 1, 1) := dk_4 (dk_at dksX15_at_1 16 rfl rfl)
theorem dX15_at_41 : decode cX15_at 41 = .ok (.iadd, 1) := dk_96 (dk_at dksX15_at_1 17 rfl rfl)
theorem dX15_at_42 : decode cX15_at 42 = .ok (.aload_n 0, 1) := dk_42 (dk_at dksX15_at_1 18 rfl rfl)
theorem dX15_at_43 : decode cX15_at 43 = .ok (.invokevirtual 35, 3) := dk_182 0 35 (dk_at dksX15_at_1 19 rfl rfl)
theorem dX15_at_46 : decode cX15_at 46 = .ok (.if_icmp .ne 10, 3) := dk_160 0 10 (dk_at dksX15_at_2 0 rfl rfl)
theorem dX15_at_49 : decode cX15_at 49 = .ok (.aload_n 0, 1) := dk_42 (dk_at dksX15_at_2 3 rfl rfl)
theorem dX15_at_50 : decode cX15_at 50 = .ok (.getfield 45, 3) := dk_180 0 45 (dk_at dksX15_at_2 4 rfl rfl)
theorem dX15_at_53 : decode cX15_at 53 = .ok (.goto 30, 3) := dk_167 0 30 (dk_at dksX15_at_2 7 rfl rfl)
theorem dX15_at_56 : decode cX15_at 56 = .ok (.aload_n 0, 1) := dk_42 (dk_at dksX15_at_2 10 rfl rfl)
theorem dX15_at_57 : decode cX15_at 57 = .ok (.iload_n 3, 1) := dk_29 (dk_at dksX15_at_2 11 rfl rfl)
theorem dX15_at_58 : decode cX15_at 58 = .ok (.iconst 1, 1) := dk_4 (dk_at dksX15_at_2 12 rfl rfl)
theorem dX15_at_59 : decode cX15_at 59 = .ok (.iadd, 1) := dk_96 (dk_at dksX15_at_2 13 rfl rfl)
theorem dX15_at_60 : decode cX15_at 60 = .ok (.invokevirtual 42, 3) := dk_182 0 42 (dk_at dksX15_at_2 14 rfl rfl)
theorem dX15_at_63 : decode cX15_at 63 = .ok (.aload_n 0, 1) := dk_42 (dk_at dksX15_at_2 17 rfl rfl)
theorem dX15_at_64 : decode cX15_at 64 = .ok (.iload_n 3, 1) := dk_29 (dk_at dksX15_at_2 18 rfl rfl)
theorem dX15_at_65 : decode cX15_at 65 = .ok (.invokevirtual 42, 3) := dk_182 0 42 (dk_at dksX15_at_2 19 rfl rfl)
theorem dX15_at_68 : decode cX15_at 68 = .ok (.lsub, 1) := dk_101 (dk_at dksX15_at_2 22 rfl rfl)
theorem dX15_at_69 : decode cX15_at 69 = .ok (.aload_n 0, 1) := dk_42 (dk_at dksX15_at_2 23 rfl rfl)
theorem dX15_at_70 : decode cX15_at 70 = .ok (.iload_n 3, 1) := dk_29 (dk_at dksX15_at_3 0 rfl rfl)
theorem dX15_at_71 : decode cX15_at 71 = .ok (.iconst 1, 1) := dk_4 (dk_at dksX15_at_3 1 rfl rfl)
theorem dX15_at_72 : decode cX15_at 72 = .ok (.iadd, 1) := dk_96 (dk_at dksX15_at_3 2 rfl rfl)
theorem dX15_at_73 : decode cX15_at 73 = .ok (.invokevirtual 38, 3) := dk_182 0 38 (dk_at dksX15_at_3 3 rfl rfl)
theorem dX15_at_76 : decode cX15_at 76 = .ok (.aload_n 0, 1) := dk_42 (dk_at dksX15_at_3 6 rfl rfl)
theorem dX15_at_77 : decode cX15_at 77 = .ok (.iload_n 3, 1) := dk_29 (dk_at dksX15_at_3 7 rfl rfl)
theorem dX15_at_78 : decode cX15_at 78 = .ok (.invokevirtual 38, 3) := dk_182 0 38 (dk_at dksX15_at_3 8 rfl rfl)
theorem dX15_at_81 : decode cX15_at 81 = .ok (.lsub, 1) := dk_101 (dk_at dksX15_at_3 11 rfl rfl)
theorem dX15_at_82 : decode cX15_at 82 = .ok (.ldiv, 1) := dk_109 (dk_at dksX15_at_3 12 rfl rfl)
theorem dX15_at_83 : decode cX15_at 83 = .ok (.lstore 4, 2) := dk_55 4 (dk_at dksX15_at_3 13 rfl rfl)
theorem dX15_at_85 : decode cX15_at 85 = .ok (.aload_n 0, 1) := dk_42 (dk_at dksX15_at_3 15 rfl rfl)
theorem dX15_at_86 : decode cX15_at 86 = .ok (.iload_n 3, 1) := dk_29 (dk_at dksX15_at_3 16 rfl rfl)
theorem dX15_at_87 : decode cX15_at 87 = .ok (.invokevirtual 42, 3) := dk_182 0 42 (dk_at dksX15_at_3 17 rfl rfl)
theorem dX15_at_90 : decode cX15_at 90 = .ok (.lload 4, 2) := dk_22 4 (dk_at dksX15_at_3 20 rfl rfl)
theorem dX15_at_92 : decode cX15_at 92 = .ok (.lload_n 1, 1) := dk_31 (dk_at dksX15_at_3 22 rfl rfl)
theorem dX15_at_93 : decode cX15_at 93 = .ok (.aload_n 0, 1) := dk_42 (dk_at dksX15_at_3 23 rfl rfl)
theorem dX15_at_94 : decode cX15_at 94 = .ok (.iload_n 3, 1) := dk_29 (dk_at dksX15_at_4 0 rfl rfl)
theorem dX15_at_95 : decode cX15_at 95 = .ok (.invokevirtual 38, 3) := dk_182 0 38 (dk_at dksX15_at_4 1 rfl rfl)
theorem dX15_at_98 : decode cX15_at 98 = .ok (.lsub, 1) := dk_101 (dk_at dksX15_at_4 4 rfl rfl)
theorem dX15_at_99 : decode cX15_at 99 = .ok (.lmul, 1) := dk_105 (dk_at dksX15_at_4 5 rfl rfl)
theorem dX15_at_100 : decode cX15_at 100 = .ok (.ladd, 1) := dk_97 (dk_at dksX15_at_4 6 rfl rfl)
theorem dX15_at_101 : decode cX15_at 101 = .ok (.lreturn, 1) := dk_173 (dk_at dksX15_at_4 7 rfl rfl)
abbrev cX15_size : ByteArray := prog_16_method_5_code
def yX15_size : MethodName := ⟨RX15, "size", "()I"⟩
theorem dX15_size_0 : decode cX15_size 0 = .ok (.aload_n 0, 1) := by decide +kernel
theorem dX15_size_1 : decode cX15_size 1 = .ok (.getfield 16, 3) := by decide +kernel
theorem dX15_size_4 : decode cX15_size 4 = .ok (.ireturn, 1) := by decide +kernel
abbrev cX15_time : ByteArray := prog_16_method_6_code
def yX15_time : MethodName := ⟨RX15, "time", "(I)J"⟩
def dkwX15_time_0 : List UInt8 := [42, 180, 0, 7, 27, 47, 173]
abbrev dktX15_time_0 : List UInt8 := dkwX15_time_0 ++ []
theorem dksX15_time_0 : cX15_time.data.toList.drop 0 = dktX15_time_0 := by decide +kernel
theorem dX15_time_0 : decode cX15_time 0 = .ok (.aload_n 0, 1) := dk_42 (dk_at dksX15_time_0 0 rfl rfl)
theorem dX15_time_1 : decode cX15_time 1 = .ok (.getfield 7, 3) := dk_180 0 7 (dk_at dksX15_time_0 1 rfl rfl)
theorem dX15_time_4 : decode cX15_time 4 = .ok (.iload_n 1, 1) := dk_27 (dk_at dksX15_time_0 4 rfl rfl)
theorem dX15_time_5 : decode cX15_time 5 = .ok (.laload, 1) := dk_47 (dk_at dksX15_time_0 5 rfl rfl)
theorem dX15_time_6 : decode cX15_time 6 = .ok (.lreturn, 1) := dk_173 (dk_at dksX15_time_0 6 rfl rfl)
abbrev cX15_value : ByteArray := prog_16_method_7_code
def yX15_value : MethodName := ⟨RX15, "value", "(I)J"⟩
def dkwX15_value_0 : List UInt8 := [42, 180, 0, 13, 27, 47, 173]
abbrev dktX15_value_0 : List UInt8 := dkwX15_value_0 ++ []
theorem dksX15_value_0 : cX15_value.data.toList.drop 0 = dktX15_value_0 := by decide +kernel
theorem dX15_value_0 : decode cX15_value 0 = .ok (.aload_n 0, 1) := dk_42 (dk_at dksX15_value_0 0 rfl rfl)
theorem dX15_value_1 : decode cX15_value 1 = .ok (.getfield 13, 3) := dk_180 0 13 (dk_at dksX15_value_0 1 rfl rfl)
theorem dX15_value_4 : decode cX15_value 4 = .ok (.iload_n 1, 1) := dk_27 (dk_at dksX15_value_0 4 rfl rfl)
theorem dX15_value_5 : decode cX15_value 5 = .ok (.laload, 1) := dk_47 (dk_at dksX15_value_0 5 rfl rfl)
theorem dX15_value_6 : decode cX15_value 6 = .ok (.lreturn, 1) := dk_173 (dk_at dksX15_value_0 6 rfl rfl)
abbrev cX15_nextTime : ByteArray := prog_16_method_9_code
def yX15_nextTime : MethodName := ⟨RX15, "nextTime", "(LGameCalculator$Wall;LGameCalculator$Wall;J)J"⟩
def dkwX15_nextTime_5 : List UInt8 := [55, 4, 132, 6, 1, 167, 255, 201, 22, 4, 173]
abbrev dktX15_nextTime_5 : List UInt8 := dkwX15_nextTime_5 ++ []
def dkwX15_nextTime_4 : List UInt8 := [43, 21, 6, 182, 0, 38, 22, 4, 148, 156, 0, 12, 43, 21, 6, 182, 0, 38, 167, 0, 5, 22, 4]
abbrev dktX15_nextTime_4 : List UInt8 := dkwX15_nextTime_4 ++ dktX15_nextTime_5
def dkwX15_nextTime_3 : List UInt8 := [182, 0, 35, 162, 0, 52, 43, 21, 6, 182, 0, 38, 32, 148, 158, 0, 31, 22, 4, 9, 148, 155, 0, 15]
abbrev dktX15_nextTime_3 : List UInt8 := dkwX15_nextTime_3 ++ dktX15_nextTime_4
def dkwX15_nextTime_2 : List UInt8 := [21, 6, 182, 0, 38, 167, 0, 5, 22, 4, 55, 4, 132, 6, 1, 167, 255, 201, 3, 54, 6, 21, 6, 43]
abbrev dktX15_nextTime_2 : List UInt8 := dkwX15_nextTime_2 ++ dktX15_nextTime_3
def dkwX15_nextTime_1 : List UInt8 := [148, 158, 0, 31, 22, 4, 9, 148, 155, 0, 15, 42, 21, 6, 182, 0, 38, 22, 4, 148, 156, 0, 12, 42]
abbrev dktX15_nextTime_1 : List UInt8 := dkwX15_nextTime_1 ++ dktX15_nextTime_2
def dkwX15_nextTime_0 : List UInt8 := [20, 0, 49, 55, 4, 3, 54, 6, 21, 6, 42, 182, 0, 35, 162, 0, 52, 42, 21, 6, 182, 0, 38, 32]
abbrev dktX15_nextTime_0 : List UInt8 := dkwX15_nextTime_0 ++ dktX15_nextTime_1
theorem dksX15_nextTime_0 : cX15_nextTime.data.toList.drop 0 = dktX15_nextTime_0 := by decide +kernel
theorem dksX15_nextTime_1 : cX15_nextTime.data.toList.drop 24 = dktX15_nextTime_1 := dk_seg dksX15_nextTime_0 24 rfl rfl
theorem dksX15_nextTime_2 : cX15_nextTime.data.toList.drop 48 = dktX15_nextTime_2 := dk_seg dksX15_nextTime_1 24 rfl rfl
theorem dksX15_nextTime_3 : cX15_nextTime.data.toList.drop 72 = dktX15_nextTime_3 := dk_seg dksX15_nextTime_2 24 rfl rfl
theorem dksX15_nextTime_4 : cX15_nextTime.data.toList.drop 96 = dktX15_nextTime_4 := dk_seg dksX15_nextTime_3 24 rfl rfl
theorem dksX15_nextTime_5 : cX15_nextTime.data.toList.drop 119 = dktX15_nextTime_5 := dk_seg dksX15_nextTime_4 23 rfl rfl
theorem dX15_nextTime_0 : decode cX15_nextTime 0 = .ok (.ldc2_w 49, 3) := dk_20 0 49 (dk_at dksX15_nextTime_0 0 rfl rfl)
theorem dX15_nextTime_3 : decode cX15_nextTime 3 = .ok (.lstore 4, 2) := dk_55 4 (dk_at dksX15_nextTime_0 3 rfl rfl)
theorem dX15_nextTime_5 : decode cX15_nextTime 5 = .ok (.iconst 0, 1) := dk_3 (dk_at dksX15_nextTime_0 5 rfl rfl)
theorem dX15_nextTime_6 : decode cX15_nextTime 6 = .ok (.istore 6, 2) := dk_54 6 (dk_at dksX15_nextTime_0 6 rfl rfl)
theorem dX15_nextTime_8 : decode cX15_nextTime 8 = .ok (.iload 6, 2) := dk_21 6 (dk_at dksX15_nextTime_0 8 rfl rfl)
theorem dX15_nextTime_10 : decode cX15_nextTime 10 = .ok (.aload_n 0, 1) := dk_42 (dk_at dksX15_nextTime_0 10 rfl rfl)
theorem dX15_nextTime_11 : decode cX15_nextTime 11 = .ok (.invokevirtual 35, 3) := dk_182 0 35 (dk_at dksX15_nextTime_0 11 rfl rfl)
theorem dX15_nextTime_14 : decode cX15_nextTime 14 = .ok (.if_icmp .ge 52, 3) := dk_162 0 52 (dk_at dksX15_nextTime_0 14 rfl rfl)
theorem dX15_nextTime_17 : decode cX15_nextTime 17 = .ok (.aload_n 0, 1) := dk_42 (dk_at dksX15_nextTime_0 17 rfl rfl)
theorem dX15_nextTime_18 : decode cX15_nextTime 18 = .ok (.iload 6, 2) := dk_21 6 (dk_at dksX15_nextTime_0 18 rfl rfl)
theorem dX15_nextTime_20 : decode cX15_nextTime 20 = .ok (.invokevirtual 38, 3) := dk_182 0 38 (dk_at dksX15_nextTime_0 20 rfl rfl)
theorem dX15_nextTime_23 : decode cX15_nextTime 23 = .ok (.lload_n 2, 1) := dk_32 (dk_at dksX15_nextTime_0 23 rfl rfl)
theorem dX15_nextTime_24 : decode cX15_nextTime 24 = .ok (.lcmp, 1) := dk_148 (dk_at dksX15_nextTime_1 0 rfl rfl)
theorem dX15_nextTime_25 : decode cX15_nextTime 25 = .ok (.ifCond .le 31, 3) := dk_158 0 31 (dk_at dksX15_nextTime_1 1 rfl rfl)
theorem dX15_nextTime_28 : decode cX15_nextTime 28 = .ok (.lload 4, 2) := dk_22 4 (dk_at dksX15_nextTime_1 4 rfl rfl)
theorem dX15_nextTime_30 : decode cX15_nextTime 30 = .ok (.lconst 0, 1) := dk_9 (dk_at dksX15_nextTime_1 6 rfl rfl)
theorem dX15_nextTime_31 : decode cX15_nextTime 31 = .ok (.lcmp, 1) := dk_148 (dk_at dksX15_nextTime_1 7 rfl rfl)
theorem dX15_nextTime_32 : decode cX15_nextTime 32 = .ok (.ifCond .lt 15, 3) := dk_155 0 15 (dk_at dksX15_nextTime_1 8 rfl rfl)
theorem dX15_nextTime_35 : decode cX15_nextTime 35 = .ok (.aload_n 0, 1) := dk_42 (dk_at dksX15_nextTime_1 11 rfl rfl)
theorem dX15_nextTime_36 : decode cX15_nextTime 36 = .ok (.iload 6, 2) := dk_21 6 (dk_at dksX15_nextTime_1 12 rfl rfl)
theorem dX15_nextTime_38 : decode cX15_nextTime 38 = .ok (.invokevirtual 38, 3) := dk_182 0 38 (dk_at dksX15_nextTime_1 14 rfl rfl)
theorem dX15_nextTime_41 : decode cX15_nextTime 41 = .ok (.lload 4, 2) := dk_22 4 (dk_at dksX15_nextTime_1 17 rfl rfl)
theorem dX15_nextTime_43 : decode cX15_nextTime 43 = .ok (.lcmp, 1) := dk_148 (dk_at dksX15_nextTime_1 19 rfl rfl)
theorem dX15_nextTime_44 : decode cX15_nextTime 44 = .ok (.ifCond .ge 12, 3) := dk_156 0 12 (dk_at dksX15_nextTime_1 20 rfl rfl)
theorem dX15_nextTime_47 : decode cX15_nextTime 47 = .ok (.aload_n 0, 1) := dk_42 (dk_at dksX15_nextTime_1 23 rfl rfl)
theorem dX15_nextTime_48 : decode cX15_nextTime 48 = .ok (.iload 6, 2) := dk_21 6 (dk_at dksX15_nextTime_2 0 rfl rfl)
theorem dX15_nextTime_50 : decode cX15_nextTime 50 = .ok (.invokevirtual 38, 3) := dk_182 0 38 (dk_at dksX15_nextTime_2 2 rfl rfl)
theorem dX15_nextTime_53 : decode cX15_nextTime 53 = .ok (.goto 5, 3) := dk_167 0 5 (dk_at dksX15_nextTime_2 5 rfl rfl)
theorem dX15_nextTime_56 : decode cX15_nextTime 56 = .ok (.lload 4, 2) := dk_22 4 (dk_at dksX15_nextTime_2 8 rfl rfl)
theorem dX15_nextTime_58 : decode cX15_nextTime 58 = .ok (.lstore 4, 2) := dk_55 4 (dk_at dksX15_nextTime_2 10 rfl rfl)
theorem dX15_nextTime_60 : decode cX15_nextTime 60 = .ok (.iinc 6 1, 3) := dk_132 6 1 (dk_at dksX15_nextTime_2 12 rfl rfl)
theorem dX15_nextTime_63 : decode cX15_nextTime 63 = .ok (.goto (-55), 3) := dk_167 255 201 (dk_at dksX15_nextTime_2 15 rfl rfl)
theorem dX15_nextTime_66 : decode cX15_nextTime 66 = .ok (.iconst 0, 1) := dk_3 (dk_at dksX15_nextTime_2 18 rfl rfl)
theorem dX15_nextTime_67 : decode cX15_nextTime 67 = .ok (.istore 6, 2) := dk_54 6 (dk_at dksX15_nextTime_2 19 rfl rfl)
theorem dX15_nextTime_69 : decode cX15_nextTime 69 = .ok (.iload 6, 2) := dk_21 6 (dk_at dksX15_nextTime_2 21 rfl rfl)
theorem dX15_nextTime_71 : decode cX15_nextTime 71 = .ok (.aload_n 1, 1) := dk_43 (dk_at dksX15_nextTime_2 23 rfl rfl)
theorem dX15_nextTime_72 : decode cX15_nextTime 72 = .ok (.invokevirtual 35, 3) := dk_182 0 35 (dk_at dksX15_nextTime_3 0 rfl rfl)
theorem dX15_nextTime_75 : decode cX15_nextTime 75 = .ok (.if_icmp .ge 52, 3) := dk_162 0 52 (dk_at dksX15_nextTime_3 3 rfl rfl)
theorem dX15_nextTime_78 : decode cX15_nextTime 78 = .ok (.aload_n 1, 1) := dk_43 (dk_at dksX15_nextTime_3 6 rfl rfl)
theorem dX15_nextTime_79 : decode cX15_nextTime 79 = .ok (.iload 6, 2) := dk_21 6 (dk_at dksX15_nextTime_3 7 rfl rfl)
theorem dX15_nextTime_81 : decode cX15_nextTime 81 = .ok (.invokevirtual 38, 3) := dk_182 0 38 (dk_at dksX15_nextTime_3 9 rfl rfl)
theorem dX15_nextTime_84 : decode cX15_nextTime 84 = .ok (.lload_n 2, 1) := dk_32 (dk_at dksX15_nextTime_3 12 rfl rfl)
theorem dX15_nextTime_85 : decode cX15_nextTime 85 = .ok (.lcmp, 1) := dk_148 (dk_at dksX15_nextTime_3 13 rfl rfl)
theorem dX15_nextTime_86 : decode cX15_nextTime 86 = .ok (.ifCond .le 31, 3) := dk_158 0 31 (dk_at dksX15_nextTime_3 14 rfl rfl)
theorem dX15_nextTime_89 : decode cX15_nextTime 89 = .ok (.lload 4, 2) := dk_22 4 (dk_at dksX15_nextTime_3 17 rfl rfl)
theorem dX15_nextTime_91 : decode cX15_nextTime 91 = .ok (.lconst 0, 1) := dk_9 (dk_at dksX15_nextTime_3 19 rfl rfl)
theorem dX15_nextTime_92 : decode cX15_nextTime 92 = .ok (.lcmp, 1) := dk_148 (dk_at dksX15_nextTime_3 20 rfl rfl)
theorem dX15_nextTime_93 : decode cX15_nextTime 93 = .ok (.ifCond .lt 15, 3) := dk_155 0 15 (dk_at dksX15_nextTime_3 21 rfl rfl)
theorem dX15_nextTime_96 : decode cX15_nextTime 96 = .ok (.aload_n 1, 1) := dk_43 (dk_at dksX15_nextTime_4 0 rfl rfl)
theorem dX15_nextTime_97 : decode cX15_nextTime 97 = .ok (.iload 6, 2) := dk_21 6 (dk_at dksX15_nextTime_4 1 rfl rfl)
theorem dX15_nextTime_99 : decode cX15_nextTime 99 = .ok (.invokevirtual 38, 3) := dk_182 0 38 (dk_at dksX15_nextTime_4 3 rfl rfl)
theorem dX15_nextTime_102 : decode cX15_nextTime 102 = .ok (.lload 4, 2) := dk_22 4 (dk_at dksX15_nextTime_4 6 rfl rfl)
theorem dX15_nextTime_104 : decode cX15_nextTime 104 = .ok (.lcmp, 1) := dk_148 (dk_at dksX15_nextTime_4 8 rfl rfl)
theorem dX15_nextTime_105 : decode cX15_nextTime 105 = .ok (.ifCond .ge 12, 3) := dk_156 0 12 (dk_at dksX15_nextTime_4 9 rfl rfl)
theorem dX15_nextTime_108 : decode cX15_nextTime 108 = .ok (.aload_n 1, 1) := dk_43 (dk_at dksX15_nextTime_4 12 rfl rfl)
theorem dX15_nextTime_109 : decode cX15_nextTime 109 = .ok (.iload 6, 2) := dk_21 6 (dk_at dksX15_nextTime_4 13 rfl rfl)
theorem dX15_nextTime_111 : decode cX15_nextTime 111 = .ok (.invokevirtual 38, 3) := dk_182 0 38 (dk_at dksX15_nextTime_4 15 rfl rfl)
theorem dX15_nextTime_114 : decode cX15_nextTime 114 = .ok (.goto 5, 3) := dk_167 0 5 (dk_at dksX15_nextTime_4 18 rfl rfl)
theorem dX15_nextTime_117 : decode cX15_nextTime 117 = .ok (.lload 4, 2) := dk_22 4 (dk_at dksX15_nextTime_4 21 rfl rfl)
theorem dX15_nextTime_119 : decode cX15_nextTime 119 = .ok (.lstore 4, 2) := dk_55 4 (dk_at dksX15_nextTime_5 0 rfl rfl)
theorem dX15_nextTime_121 : decode cX15_nextTime 121 = .ok (.iinc 6 1, 3) := dk_132 6 1 (dk_at dksX15_nextTime_5 2 rfl rfl)
theorem dX15_nextTime_124 : decode cX15_nextTime 124 = .ok (.goto (-55), 3) := dk_167 255 201 (dk_at dksX15_nextTime_5 5 rfl rfl)
theorem dX15_nextTime_127 : decode cX15_nextTime 127 = .ok (.lload 4, 2) := dk_22 4 (dk_at dksX15_nextTime_5 8 rfl rfl)
theorem dX15_nextTime_129 : decode cX15_nextTime 129 = .ok (.lreturn, 1) := dk_173 (dk_at dksX15_nextTime_5 10 rfl rfl)
abbrev cX15_tilted : ByteArray := prog_16_method_11_code
def yX15_tilted : MethodName := ⟨RX15, "tilted", "(J)LGameCalculator$Wall;"⟩
def dkwX15_tilted_2 : List UInt8 := [167, 255, 219, 45, 42, 180, 0, 45, 31, 97, 181, 0, 45, 45, 176]
abbrev dktX15_tilted_2 : List UInt8 := dkwX15_tilted_2 ++ []
def dkwX15_tilted_1 : List UInt8 := [182, 0, 38, 42, 21, 4, 182, 0, 42, 31, 42, 21, 4, 182, 0, 38, 105, 97, 182, 0, 31, 132, 4, 1]
abbrev dktX15_tilted_1 : List UInt8 := dkwX15_tilted_1 ++ dktX15_tilted_2
def dkwX15_tilted_0 : List UInt8 := [187, 0, 8, 89, 183, 0, 30, 78, 3, 54, 4, 21, 4, 42, 182, 0, 35, 162, 0, 34, 45, 42, 21, 4]
abbrev dktX15_tilted_0 : List UInt8 := dkwX15_tilted_0 ++ dktX15_tilted_1
theorem dksX15_tilted_0 : cX15_tilted.data.toList.drop 0 = dktX15_tilted_0 := by decide +kernel
theorem dksX15_tilted_1 : cX15_tilted.data.toList.drop 24 = dktX15_tilted_1 := dk_seg dksX15_tilted_0 24 rfl rfl
theorem dksX15_tilted_2 : cX15_tilted.data.toList.drop 48 = dktX15_tilted_2 := dk_seg dksX15_tilted_1 24 rfl rfl
theorem dX15_tilted_0 : decode cX15_tilted 0 = .ok (.new 8, 3) := dk_187 0 8 (dk_at dksX15_tilted_0 0 rfl rfl)
theorem dX15_tilted_3 : decode cX15_tilted 3 = .ok (.dup, 1) := dk_89 (dk_at dksX15_tilted_0 3 rfl rfl)
theorem dX15_tilted_4 : decode cX15_tilted 4 = .ok (.invokespecial 30, 3) := dk_183 0 30 (dk_at dksX15_tilted_0 4 rfl rfl)
theorem dX15_tilted_7 : decode cX15_tilted 7 = .ok (.astore_n 3, 1) := dk_78 (dk_at dksX15_tilted_0 7 rfl rfl)
theorem dX15_tilted_8 : decode cX15_tilted 8 = .ok (.iconst 0, 1) := dk_3 (dk_at dksX15_tilted_0 8 rfl rfl)
theorem dX15_tilted_9 : decode cX15_tilted 9 = .ok (.istore 4, 2) := dk_54 4 (dk_at dksX15_tilted_0 9 rfl rfl)
theorem dX15_tilted_11 : decode cX15_tilted 11 = .ok (.iload 4, 2) := dk_21 4 (dk_at dksX15_tilted_0 11 rfl rfl)
theorem dX15_tilted_13 : decode cX15_tilted 13 = .ok (.aload_n 0, 1) := dk_42 (dk_at dksX15_tilted_0 13 rfl rfl)
theorem dX15_tilted_14 : decode cX15_tilted 14 = .ok (.invokevirtual 35, 3) := dk_182 0 35 (dk_at dksX15_tilted_0 14 rfl rfl)
theorem dX15_tilted_17 : decode cX15_tilted 17 = .ok (.if_icmp .ge 34, 3) := dk_162 0 34 (dk_at dksX15_tilted_0 17 rfl rfl)
theorem dX15_tilted_20 : decode cX15_tilted 20 = .ok (.aload_n 3, 1) := dk_45 (dk_at dksX15_tilted_0 20 rfl rfl)
theorem dX15_tilted_21 : decode cX15_tilted 21 = .ok (.aload_n 0, 1) := dk_42 (dk_at dksX15_tilted_0 21 rfl rfl)
theorem dX15_tilted_22 : decode cX15_tilted 22 = .ok (.iload 4, 2) := dk_21 4 (dk_at dksX15_tilted_0 22 rfl rfl)
theorem dX15_tilted_24 : decode cX15_tilted 24 = .ok (.invokevirtual 38, 3) := dk_182 0 38 (dk_at dksX15_tilted_1 0 rfl rfl)
theorem dX15_tilted_27 : decode cX15_tilted 27 = .ok (.aload_n 0, 1) := dk_42 (dk_at dksX15_tilted_1 3 rfl rfl)
theorem dX15_tilted_28 : decode cX15_tilted 28 = .ok (.iload 4, 2) := dk_21 4 (dk_at dksX15_tilted_1 4 rfl rfl)
theorem dX15_tilted_30 : decode cX15_tilted 30 = .ok (.invokevirtual 42, 3) := dk_182 0 42 (dk_at dksX15_tilted_1 6 rfl rfl)
theorem dX15_tilted_33 : decode cX15_tilted 33 = .ok (.lload_n 1, 1) := dk_31 (dk_at dksX15_tilted_1 9 rfl rfl)
theorem dX15_tilted_34 : decode cX15_tilted 34 = .ok (.aload_n 0, 1) := dk_42 (dk_at dksX15_tilted_1 10 rfl rfl)
theorem dX15_tilted_35 : decode cX15_tilted 35 = .ok (.iload 4, 2) := dk_21 4 (dk_at dksX15_tilted_1 11 rfl rfl)
theorem dX15_tilted_37 : decode cX15_tilted 37 = .ok (.invokevirtual 38, 3) := dk_182 0 38 (dk_at dksX15_tilted_1 13 rfl rfl)
theorem dX15_tilted_40 : decode cX15_tilted 40 = .ok (.lmul, 1) := dk_105 (dk_at dksX15_tilted_1 16 rfl rfl)
theorem dX15_tilted_41 : decode cX15_tilted 41 = .ok (.ladd, 1) := dk_97 (dk_at dksX15_tilted_1 17 rfl rfl)
theorem dX15_tilted_42 : decode cX15_tilted 42 = .ok (.invokevirtual 31, 3) := dk_182 0 31 (dk_at dksX15_tilted_1 18 rfl rfl)
theorem dX15_tilted_45 : decode cX15_tilted 45 = .ok (.iinc 4 1, 3) := dk_132 4 1 (dk_at dksX15_tilted_1 21 rfl rfl)
theorem dX15_tilted_48 : decode cX15_tilted 48 = .ok (.goto (-37), 3) := dk_167 255 219 (dk_at dksX15_tilted_2 0 rfl rfl)
theorem dX15_tilted_51 : decode cX15_tilted 51 = .ok (.aload_n 3, 1) := dk_45 (dk_at dksX15_tilted_2 3 rfl rfl)
theorem dX15_tilted_52 : decode cX15_tilted 52 = .ok (.aload_n 0, 1) := dk_42 (dk_at dksX15_tilted_2 4 rfl rfl)
theorem dX15_tilted_53 : decode cX15_tilted 53 = .ok (.getfield 45, 3) := dk_180 0 45 (dk_at dksX15_tilted_2 5 rfl rfl)
theorem dX15_tilted_56 : decode cX15_tilted 56 = .ok (.lload_n 1, 1) := dk_31 (dk_at dksX15_tilted_2 8 rfl rfl)
theorem dX15_tilted_57 : decode cX15_tilted 57 = .ok (.ladd, 1) := dk_97 (dk_at dksX15_tilted_2 9 rfl rfl)
theorem dX15_tilted_58 : decode cX15_tilted 58 = .ok (.putfield 45, 3) := dk_181 0 45 (dk_at dksX15_tilted_2 10 rfl rfl)
theorem dX15_tilted_61 : decode cX15_tilted 61 = .ok (.aload_n 3, 1) := dk_45 (dk_at dksX15_tilted_2 13 rfl rfl)
theorem dX15_tilted_62 : decode cX15_tilted 62 = .ok (.areturn, 1) := dk_176 (dk_at dksX15_tilted_2 14 rfl rfl)
abbrev cX15_cut : ByteArray := prog_16_method_12_code
def yX15_cut : MethodName := ⟨RX15, "cut", "(J)LGameCalculator$Wall;"⟩
def dkwX15_cut_2 : List UInt8 := [132, 4, 1, 167, 255, 217, 45, 31, 42, 31, 182, 0, 51, 182, 0, 31, 45, 176]
abbrev dktX15_cut_2 : List UInt8 := dkwX15_cut_2 ++ []
def dkwX15_cut_1 : List UInt8 := [182, 0, 38, 31, 148, 156, 0, 25, 45, 42, 21, 4, 182, 0, 38, 42, 21, 4, 182, 0, 42, 182, 0, 31]
abbrev dktX15_cut_1 : List UInt8 := dkwX15_cut_1 ++ dktX15_cut_2
def dkwX15_cut_0 : List UInt8 := [187, 0, 8, 89, 183, 0, 30, 78, 3, 54, 4, 21, 4, 42, 182, 0, 35, 162, 0, 36, 42, 21, 4]
abbrev dktX15_cut_0 : List UInt8 := dkwX15_cut_0 ++ dktX15_cut_1
theorem dksX15_cut_0 : cX15_cut.data.toList.drop 0 = dktX15_cut_0 := by decide +kernel
theorem dksX15_cut_1 : cX15_cut.data.toList.drop 23 = dktX15_cut_1 := dk_seg dksX15_cut_0 23 rfl rfl
theorem dksX15_cut_2 : cX15_cut.data.toList.drop 47 = dktX15_cut_2 := dk_seg dksX15_cut_1 24 rfl rfl
theorem dX15_cut_0 : decode cX15_cut 0 = .ok (.new 8, 3) := dk_187 0 8 (dk_at dksX15_cut_0 0 rfl rfl)
theorem dX15_cut_3 : decode cX15_cut 3 = .ok (.dup, 1) := dk_89 (dk_at dksX15_cut_0 3 rfl rfl)
theorem dX15_cut_4 : decode cX15_cut 4 = .ok (.invokespecial 30, 3) := dk_183 0 30 (dk_at dksX15_cut_0 4 rfl rfl)
theorem dX15_cut_7 : decode cX15_cut 7 = .ok (.astore_n 3, 1) := dk_78 (dk_at dksX15_cut_0 7 rfl rfl)
theorem dX15_cut_8 : decode cX15_cut 8 = .ok (.iconst 0, 1) := dk_3 (dk_at dksX15_cut_0 8 rfl rfl)
theorem dX15_cut_9 : decode cX15_cut 9 = .ok (.istore 4, 2) := dk_54 4 (dk_at dksX15_cut_0 9 rfl rfl)
theorem dX15_cut_11 : decode cX15_cut 11 = .ok (.iload 4, 2) := dk_21 4 (dk_at dksX15_cut_0 11 rfl rfl)
theorem dX15_cut_13 : decode cX15_cut 13 = .ok (.aload_n 0, 1) := dk_42 (dk_at dksX15_cut_0 13 rfl rfl)
theorem dX15_cut_14 : decode cX15_cut 14 = .ok (.invokevirtual 35, 3) := dk_182 0 35 (dk_at dksX15_cut_0 14 rfl rfl)
theorem dX15_cut_17 : decode cX15_cut 17 = .ok (.if_icmp .ge 36, 3) := dk_162 0 36 (dk_at dksX15_cut_0 17 rfl rfl)
theorem dX15_cut_20 : decode cX15_cut 20 = .ok (.aload_n 0, 1) := dk_42 (dk_at dksX15_cut_0 20 rfl rfl)
theorem dX15_cut_21 : decode cX15_cut 21 = .ok (.iload 4, 2) := dk_21 4 (dk_at dksX15_cut_0 21 rfl rfl)
theorem dX15_cut_23 : decode cX15_cut 23 = .ok (.invokevirtual 38, 3) := dk_182 0 38 (dk_at dksX15_cut_1 0 rfl rfl)
theorem dX15_cut_26 : decode cX15_cut 26 = .ok (.lload_n 1, 1) := dk_31 (dk_at dksX15_cut_1 3 rfl rfl)
theorem dX15_cut_27 : decode cX15_cut 27 = .ok (.lcmp, 1) := dk_148 (dk_at dksX15_cut_1 4 rfl rfl)
theorem dX15_cut_28 : decode cX15_cut 28 = .ok (.ifCond .ge 25, 3) := dk_156 0 25 (dk_at dksX15_cut_1 5 rfl rfl)
theorem dX15_cut_31 : decode cX15_cut 31 = .ok (.aload_n 3, 1) := dk_45 (dk_at dksX15_cut_1 8 rfl rfl)
theorem dX15_cut_32 : decode cX15_cut 32 = .ok (.aload_n 0, 1) := dk_42 (dk_at dksX15_cut_1 9 rfl rfl)
theorem dX15_cut_33 : decode cX15_cut 33 = .ok (.iload 4, 2) := dk_21 4 (dk_at dksX15_cut_1 10 rfl rfl)
theorem dX15_cut_35 : decode cX15_cut 35 = .ok (.invokevirtual 38, 3) := dk_182 0 38 (dk_at dksX15_cut_1 12 rfl rfl)
theorem dX15_cut_38 : decode cX15_cut 38 = .ok (.aload_n 0, 1) := dk_42 (dk_at dksX15_cut_1 15 rfl rfl)
theorem dX15_cut_39 : decode cX15_cut 39 = .ok (.iload 4, 2) := dk_21 4 (dk_at dksX15_cut_1 16 rfl rfl)
theorem dX15_cut_41 : decode cX15_cut 41 = .ok (.invokevirtual 42, 3) := dk_182 0 42 (dk_at dksX15_cut_1 18 rfl rfl)
theorem dX15_cut_44 : decode cX15_cut 44 = .ok (.invokevirtual 31, 3) := dk_182 0 31 (dk_at dksX15_cut_1 21 rfl rfl)
theorem dX15_cut_47 : decode cX15_cut 47 = .ok (.iinc 4 1, 3) := dk_132 4 1 (dk_at dksX15_cut_2 0 rfl rfl)
theorem dX15_cut_50 : decode cX15_cut 50 = .ok (.goto (-39), 3) := dk_167 255 217 (dk_at dksX15_cut_2 3 rfl rfl)
theorem dX15_cut_53 : decode cX15_cut 53 = .ok (.aload_n 3, 1) := dk_45 (dk_at dksX15_cut_2 6 rfl rfl)
theorem dX15_cut_54 : decode cX15_cut 54 = .ok (.lload_n 1, 1) := dk_31 (dk_at dksX15_cut_2 7 rfl rfl)
theorem dX15_cut_55 : decode cX15_cut 55 = .ok (.aload_n 0, 1) := dk_42 (dk_at dksX15_cut_2 8 rfl rfl)
theorem dX15_cut_56 : decode cX15_cut 56 = .ok (.lload_n 1, 1) := dk_31 (dk_at dksX15_cut_2 9 rfl rfl)
theorem dX15_cut_57 : decode cX15_cut 57 = .ok (.invokevirtual 51, 3) := dk_182 0 51 (dk_at dksX15_cut_2 10 rfl rfl)
theorem dX15_cut_60 : decode cX15_cut 60 = .ok (.invokevirtual 31, 3) := dk_182 0 31 (dk_at dksX15_cut_2 13 rfl rfl)
theorem dX15_cut_63 : decode cX15_cut 63 = .ok (.aload_n 3, 1) := dk_45 (dk_at dksX15_cut_2 16 rfl rfl)
theorem dX15_cut_64 : decode cX15_cut 64 = .ok (.areturn, 1) := dk_176 (dk_at dksX15_cut_2 17 rfl rfl)
theorem q183 : (Jvm.Cond.initialized "GameCalculator$Wall") ∈ lw_all := lw_g (lw_at lw_m1 52 rfl) rfl
theorem q829 : (Jvm.Cond.selects "GameCalculator$Wall" ({ cls := "java/lang/Object", name := "getClass", desc := "()Ljava/lang/Class;" } : Jvm.MethodName) ({ cls := "java/lang/Object", name := "getClass", desc := "()Ljava/lang/Class;" } : Jvm.MethodName)) ∈ lw_all := lw_g (lw_at lw_m3 218 rfl) rfl
theorem q2200 : (Jvm.Cond.instantiable "GameCalculator$Wall" (4 : Nat)) ∈ lw_all := lw_g (lw_at lw_m9 149 rfl) rfl
theorem q2202 : (Jvm.Cond.instanceMethod ({ cls := "GameCalculator$Wall", name := "<init>", desc := "()V" } : Jvm.MethodName)) ∈ lw_all := lw_g (lw_at lw_m9 151 rfl) rfl
theorem q2203 : (Jvm.Cond.code ({ cls := "GameCalculator$Wall", name := "<init>", desc := "()V" } : Jvm.MethodName) prog_16_method_1_code (1 : Nat) (Option.none : Option Jvm.ClassFile.FieldType)) ∈ lw_all := lw_g (lw_at lw_m9 152 rfl) rfl
theorem q2204 : (Jvm.Cond.methodLink "GameCalculator$Wall" (1 : Nat) ({ cls := "java/lang/Object", name := "<init>", desc := "()V" } : Jvm.MethodName)) ∈ lw_all := lw_g (lw_at lw_m9 153 rfl) rfl
theorem q2205 : (Jvm.Cond.fieldLink "GameCalculator$Wall" (7 : Nat) "GameCalculator$Wall" "times" "[J") ∈ lw_all := lw_g (lw_at lw_m9 154 rfl) rfl
theorem q2206 : (Jvm.Cond.fieldLink "GameCalculator$Wall" (13 : Nat) "GameCalculator$Wall" "values" "[J") ∈ lw_all := lw_g (lw_at lw_m9 155 rfl) rfl
theorem q2207 : (Jvm.Cond.fieldLink "GameCalculator$Wall" (16 : Nat) "GameCalculator$Wall" "size" "I") ∈ lw_all := lw_g (lw_at lw_m9 156 rfl) rfl
theorem q2208 : (Jvm.Cond.fieldLink "GameCalculator$Wall" (45 : Nat) "GameCalculator$Wall" "slope" "J") ∈ lw_all := lw_g (lw_at lw_m9 157 rfl) rfl
theorem q2209 : (Jvm.Cond.lays "GameCalculator$Wall" "GameCalculator$Wall" "times" "[J") ∈ lw_all := lw_g (lw_at lw_m9 158 rfl) rfl
theorem q2210 : (Jvm.Cond.soleField "GameCalculator$Wall" "times") ∈ lw_all := lw_g (lw_at lw_m9 159 rfl) rfl
theorem q2211 : (Jvm.Cond.lays "GameCalculator$Wall" "GameCalculator$Wall" "values" "[J") ∈ lw_all := lw_g (lw_at lw_m9 160 rfl) rfl
theorem q2212 : (Jvm.Cond.soleField "GameCalculator$Wall" "values") ∈ lw_all := lw_g (lw_at lw_m9 161 rfl) rfl
theorem q2213 : (Jvm.Cond.lays "GameCalculator$Wall" "GameCalculator$Wall" "size" "I") ∈ lw_all := lw_g (lw_at lw_m9 162 rfl) rfl
theorem q2214 : (Jvm.Cond.soleField "GameCalculator$Wall" "size") ∈ lw_all := lw_g (lw_at lw_m9 163 rfl) rfl
theorem q2215 : (Jvm.Cond.lays "GameCalculator$Wall" "GameCalculator$Wall" "slope" "J") ∈ lw_all := lw_g (lw_at lw_m9 164 rfl) rfl
theorem q2216 : (Jvm.Cond.soleField "GameCalculator$Wall" "slope") ∈ lw_all := lw_g (lw_at lw_m9 165 rfl) rfl
theorem q2217 : (Jvm.Cond.superclass "GameCalculator$Wall" "java/lang/Object") ∈ lw_all := lw_g (lw_at lw_m9 166 rfl) rfl
theorem q2222 : (Jvm.Cond.static ({ cls := "GameCalculator$Wall", name := "constant", desc := "(J)LGameCalculator$Wall;" } : Jvm.MethodName)) ∈ lw_all := lw_g (lw_at lw_m9 171 rfl) rfl
theorem q2223 : (Jvm.Cond.code ({ cls := "GameCalculator$Wall", name := "constant", desc := "(J)LGameCalculator$Wall;" } : Jvm.MethodName) prog_16_method_4_code (3 : Nat) (Option.some (Jvm.ClassFile.FieldType.object "GameCalculator$Wall"))) ∈ lw_all := lw_g (lw_at lw_m9 172 rfl) rfl
theorem q2224 : (Jvm.Cond.classLink "GameCalculator$Wall" (8 : Nat) "GameCalculator$Wall") ∈ lw_all := lw_g (lw_at lw_m9 173 rfl) rfl
theorem q2225 : (Jvm.Cond.methodLink "GameCalculator$Wall" (30 : Nat) ({ cls := "GameCalculator$Wall", name := "<init>", desc := "()V" } : Jvm.MethodName)) ∈ lw_all := lw_g (lw_at lw_m9 174 rfl) rfl
theorem q2226 : (Jvm.Cond.methodLink "GameCalculator$Wall" (31 : Nat) ({ cls := "GameCalculator$Wall", name := "add", desc := "(JJ)V" } : Jvm.MethodName)) ∈ lw_all := lw_g (lw_at lw_m9 175 rfl) rfl
theorem q2227 : (Jvm.Cond.instanceMethod ({ cls := "GameCalculator$Wall", name := "add", desc := "(JJ)V" } : Jvm.MethodName)) ∈ lw_all := lw_g (lw_at lw_m9 176 rfl) rfl
theorem q2228 : (Jvm.Cond.selects "GameCalculator$Wall" ({ cls := "GameCalculator$Wall", name := "add", desc := "(JJ)V" } : Jvm.MethodName) ({ cls := "GameCalculator$Wall", name := "add", desc := "(JJ)V" } : Jvm.MethodName)) ∈ lw_all := lw_g (lw_at lw_m9 177 rfl) rfl
theorem q2229 : (Jvm.Cond.code ({ cls := "GameCalculator$Wall", name := "add", desc := "(JJ)V" } : Jvm.MethodName) prog_16_method_2_code (5 : Nat) (Option.none : Option Jvm.ClassFile.FieldType)) ∈ lw_all := lw_g (lw_at lw_m9 178 rfl) rfl
theorem q2230 : (Jvm.Cond.methodLink "GameCalculator$Wall" (20 : Nat) ({ cls := "GameCalculator$Wall", name := "longer", desc := "([J)[J" } : Jvm.MethodName)) ∈ lw_all := lw_g (lw_at lw_m9 179 rfl) rfl
theorem q2231 : (Jvm.Cond.static ({ cls := "GameCalculator$Wall", name := "longer", desc := "([J)[J" } : Jvm.MethodName)) ∈ lw_all := lw_g (lw_at lw_m9 180 rfl) rfl
theorem q2232 : (Jvm.Cond.code ({ cls := "GameCalculator$Wall", name := "longer", desc := "([J)[J" } : Jvm.MethodName) prog_16_method_3_code (2 : Nat) (Option.some (Jvm.ClassFile.FieldType.array Jvm.ClassFile.FieldType.long))) ∈ lw_all := lw_g (lw_at lw_m9 181 rfl) rfl
theorem q2233 : (Jvm.Cond.methodLink "GameCalculator$Wall" (24 : Nat) ({ cls := "java/lang/System", name := "arraycopy", desc := "(Ljava/lang/Object;ILjava/lang/Object;II)V" } : Jvm.MethodName)) ∈ lw_all := lw_g (lw_at lw_m9 182 rfl) rfl
theorem q2241 : (Jvm.Cond.instanceMethod ({ cls := "GameCalculator$Wall", name := "becomeBest", desc := "(LGameCalculator$Wall;LGameCalculator$Wall;J)V" } : Jvm.MethodName)) ∈ lw_all := lw_g (lw_at lw_m9 190 rfl) rfl
theorem q2242 : (Jvm.Cond.selects "GameCalculator$Wall" ({ cls := "GameCalculator$Wall", name := "becomeBest", desc := "(LGameCalculator$Wall;LGameCalculator$Wall;J)V" } : Jvm.MethodName) ({ cls := "GameCalculator$Wall", name := "becomeBest", desc := "(LGameCalculator$Wall;LGameCalculator$Wall;J)V" } : Jvm.MethodName)) ∈ lw_all := lw_g (lw_at lw_m9 191 rfl) rfl
theorem q2243 : (Jvm.Cond.code ({ cls := "GameCalculator$Wall", name := "becomeBest", desc := "(LGameCalculator$Wall;LGameCalculator$Wall;J)V" } : Jvm.MethodName) prog_16_method_10_code (15 : Nat) (Option.none : Option Jvm.ClassFile.FieldType)) ∈ lw_all := lw_g (lw_at lw_m9 192 rfl) rfl
theorem q2244 : (Jvm.Cond.methodLink "GameCalculator$Wall" (51 : Nat) ({ cls := "GameCalculator$Wall", name := "at", desc := "(J)J" } : Jvm.MethodName)) ∈ lw_all := lw_g (lw_at lw_m9 193 rfl) rfl
theorem q2245 : (Jvm.Cond.instanceMethod ({ cls := "GameCalculator$Wall", name := "at", desc := "(J)J" } : Jvm.MethodName)) ∈ lw_all := lw_g (lw_at lw_m9 194 rfl) rfl
theorem q2246 : (Jvm.Cond.selects "GameCalculator$Wall" ({ cls := "GameCalculator$Wall", name := "at", desc := "(J)J" } : Jvm.MethodName) ({ cls := "GameCalculator$Wall", name := "at", desc := "(J)J" } : Jvm.MethodName)) ∈ lw_all := lw_g (lw_at lw_m9 195 rfl) rfl
theorem q2247 : (Jvm.Cond.code ({ cls := "GameCalculator$Wall", name := "at", desc := "(J)J" } : Jvm.MethodName) prog_16_method_8_code (6 : Nat) (Option.some Jvm.ClassFile.FieldType.long)) ∈ lw_all := lw_g (lw_at lw_m9 196 rfl) rfl
theorem q2248 : (Jvm.Cond.methodLink "GameCalculator$Wall" (35 : Nat) ({ cls := "GameCalculator$Wall", name := "size", desc := "()I" } : Jvm.MethodName)) ∈ lw_all := lw_g (lw_at lw_m9 197 rfl) rfl
theorem q2249 : (Jvm.Cond.instanceMethod ({ cls := "GameCalculator$Wall", name := "size", desc := "()I" } : Jvm.MethodName)) ∈ lw_all := lw_g (lw_at lw_m9 198 rfl) rfl
theorem q2250 : (Jvm.Cond.selects "GameCalculator$Wall" ({ cls := "GameCalculator$Wall", name := "size", desc := "()I" } : Jvm.MethodName) ({ cls := "GameCalculator$Wall", name := "size", desc := "()I" } : Jvm.MethodName)) ∈ lw_all := lw_g (lw_at lw_m9 199 rfl) rfl
theorem q2251 : (Jvm.Cond.code ({ cls := "GameCalculator$Wall", name := "size", desc := "()I" } : Jvm.MethodName) prog_16_method_5_code (1 : Nat) (Option.some Jvm.ClassFile.FieldType.int)) ∈ lw_all := lw_g (lw_at lw_m9 200 rfl) rfl
theorem q2252 : (Jvm.Cond.methodLink "GameCalculator$Wall" (38 : Nat) ({ cls := "GameCalculator$Wall", name := "time", desc := "(I)J" } : Jvm.MethodName)) ∈ lw_all := lw_g (lw_at lw_m9 201 rfl) rfl
theorem q2253 : (Jvm.Cond.instanceMethod ({ cls := "GameCalculator$Wall", name := "time", desc := "(I)J" } : Jvm.MethodName)) ∈ lw_all := lw_g (lw_at lw_m9 202 rfl) rfl
theorem q2254 : (Jvm.Cond.selects "GameCalculator$Wall" ({ cls := "GameCalculator$Wall", name := "time", desc := "(I)J" } : Jvm.MethodName) ({ cls := "GameCalculator$Wall", name := "time", desc := "(I)J" } : Jvm.MethodName)) ∈ lw_all := lw_g (lw_at lw_m9 203 rfl) rfl
theorem q2255 : (Jvm.Cond.code ({ cls := "GameCalculator$Wall", name := "time", desc := "(I)J" } : Jvm.MethodName) prog_16_method_6_code (2 : Nat) (Option.some Jvm.ClassFile.FieldType.long)) ∈ lw_all := lw_g (lw_at lw_m9 204 rfl) rfl
theorem q2256 : (Jvm.Cond.methodLink "GameCalculator$Wall" (42 : Nat) ({ cls := "GameCalculator$Wall", name := "value", desc := "(I)J" } : Jvm.MethodName)) ∈ lw_all := lw_g (lw_at lw_m9 205 rfl) rfl
theorem q2257 : (Jvm.Cond.instanceMethod ({ cls := "GameCalculator$Wall", name := "value", desc := "(I)J" } : Jvm.MethodName)) ∈ lw_all := lw_g (lw_at lw_m9 206 rfl) rfl
theorem q2258 : (Jvm.Cond.selects "GameCalculator$Wall" ({ cls := "GameCalculator$Wall", name := "value", desc := "(I)J" } : Jvm.MethodName) ({ cls := "GameCalculator$Wall", name := "value", desc := "(I)J" } : Jvm.MethodName)) ∈ lw_all := lw_g (lw_at lw_m9 207 rfl) rfl
theorem q2259 : (Jvm.Cond.code ({ cls := "GameCalculator$Wall", name := "value", desc := "(I)J" } : Jvm.MethodName) prog_16_method_7_code (2 : Nat) (Option.some Jvm.ClassFile.FieldType.long)) ∈ lw_all := lw_g (lw_at lw_m9 208 rfl) rfl
theorem q2260 : (Jvm.Cond.methodLink "GameCalculator$Wall" (55 : Nat) ({ cls := "GameCalculator$Wall", name := "nextTime", desc := "(LGameCalculator$Wall;LGameCalculator$Wall;J)J" } : Jvm.MethodName)) ∈ lw_all := lw_g (lw_at lw_m9 209 rfl) rfl
theorem q2261 : (Jvm.Cond.static ({ cls := "GameCalculator$Wall", name := "nextTime", desc := "(LGameCalculator$Wall;LGameCalculator$Wall;J)J" } : Jvm.MethodName)) ∈ lw_all := lw_g (lw_at lw_m9 210 rfl) rfl
theorem q2262 : (Jvm.Cond.code ({ cls := "GameCalculator$Wall", name := "nextTime", desc := "(LGameCalculator$Wall;LGameCalculator$Wall;J)J" } : Jvm.MethodName) prog_16_method_9_code (7 : Nat) (Option.some Jvm.ClassFile.FieldType.long)) ∈ lw_all := lw_g (lw_at lw_m9 211 rfl) rfl
theorem q2263 : (Jvm.Cond.constantLong "GameCalculator$Wall" (49 : Nat) (-1 : Int64)) ∈ lw_all := lw_g (lw_at lw_m9 212 rfl) rfl
theorem q2264 : (Jvm.Cond.methodLink "GameCalculator$Wall" (59 : Nat) ({ cls := "java/lang/Math", name := "abs", desc := "(J)J" } : Jvm.MethodName)) ∈ lw_all := lw_g (lw_at lw_m9 213 rfl) rfl
theorem q2266 : (Jvm.Cond.instanceMethod ({ cls := "GameCalculator$Wall", name := "tilted", desc := "(J)LGameCalculator$Wall;" } : Jvm.MethodName)) ∈ lw_all := lw_g (lw_at lw_m9 215 rfl) rfl
theorem q2267 : (Jvm.Cond.selects "GameCalculator$Wall" ({ cls := "GameCalculator$Wall", name := "tilted", desc := "(J)LGameCalculator$Wall;" } : Jvm.MethodName) ({ cls := "GameCalculator$Wall", name := "tilted", desc := "(J)LGameCalculator$Wall;" } : Jvm.MethodName)) ∈ lw_all := lw_g (lw_at lw_m9 216 rfl) rfl
theorem q2268 : (Jvm.Cond.code ({ cls := "GameCalculator$Wall", name := "tilted", desc := "(J)LGameCalculator$Wall;" } : Jvm.MethodName) prog_16_method_11_code (5 : Nat) (Option.some (Jvm.ClassFile.FieldType.object "GameCalculator$Wall"))) ∈ lw_all := lw_g (lw_at lw_m9 217 rfl) rfl
theorem q2276 : (Jvm.Cond.instanceMethod ({ cls := "GameCalculator$Wall", name := "cut", desc := "(J)LGameCalculator$Wall;" } : Jvm.MethodName)) ∈ lw_all := lw_g (lw_at lw_m9 225 rfl) rfl
theorem q2277 : (Jvm.Cond.selects "GameCalculator$Wall" ({ cls := "GameCalculator$Wall", name := "cut", desc := "(J)LGameCalculator$Wall;" } : Jvm.MethodName) ({ cls := "GameCalculator$Wall", name := "cut", desc := "(J)LGameCalculator$Wall;" } : Jvm.MethodName)) ∈ lw_all := lw_g (lw_at lw_m9 226 rfl) rfl
theorem q2278 : (Jvm.Cond.code ({ cls := "GameCalculator$Wall", name := "cut", desc := "(J)LGameCalculator$Wall;" } : Jvm.MethodName) prog_16_method_12_code (5 : Nat) (Option.some (Jvm.ClassFile.FieldType.object "GameCalculator$Wall"))) ∈ lw_all := lw_g (lw_at lw_m9 227 rfl) rfl
theorem q2998 : (Jvm.Cond.castable "GameCalculator$Wall" "java/lang/Object") ∈ lw_tbl := lw_at lw_m12 227 rfl
theorem in_X15 : ∀ w ∈ wsX150, w ∈ lw_all := lw_in wsX150 [2209, 2211, 2213, 2215] (by decide +kernel) (by decide +kernel)
