/-! java/util/AbstractCollection -/
set_option maxRecDepth 100000
def RJ0 : String := "java/util/AbstractCollection"
abbrev cJ0_init : ByteArray := prog_41_method_1_code
def yJ0_init : MethodName := ⟨RJ0, "<init>", "()V"⟩
theorem dJ0_init_0 : decode cJ0_init 0 = .ok (.aload_n 0, 1) := by decide +kernel
theorem dJ0_init_1 : decode cJ0_init 1 = .ok (.invokespecial 1, 3) := by decide +kernel
theorem dJ0_init_4 : decode cJ0_init 4 = .ok (.return_, 1) := by decide +kernel
abbrev cJ0_isEmpty : ByteArray := prog_41_method_4_code
def yJ0_isEmpty : MethodName := ⟨RJ0, "isEmpty", "()Z"⟩
def dkwJ0_isEmpty_0 : List UInt8 := [42, 182, 0, 7, 154, 0, 7, 4, 167, 0, 4, 3, 172]
abbrev dktJ0_isEmpty_0 : List UInt8 := dkwJ0_isEmpty_0 ++ []
theorem dksJ0_isEmpty_0 : cJ0_isEmpty.data.toList.drop 0 = dktJ0_isEmpty_0 := by decide +kernel
theorem dJ0_isEmpty_0 : decode cJ0_isEmpty 0 = .ok (.aload_n 0, 1) := dk_42 (dk_at dksJ0_isEmpty_0 0 rfl rfl)
theorem dJ0_isEmpty_1 : decode cJ0_isEmpty 1 = .ok (.invokevirtual 7, 3) := dk_182 0 7 (dk_at dksJ0_isEmpty_0 1 rfl rfl)
theorem dJ0_isEmpty_4 : decode cJ0_isEmpty 4 = .ok (.ifCond .ne 7, 3) := dk_154 0 7 (dk_at dksJ0_isEmpty_0 4 rfl rfl)
theorem dJ0_isEmpty_7 : decode cJ0_isEmpty 7 = .ok (.iconst 1, 1) := dk_4 (dk_at dksJ0_isEmpty_0 7 rfl rfl)
theorem dJ0_isEmpty_8 : decode cJ0_isEmpty 8 = .ok (.goto 4, 3) := dk_167 0 4 (dk_at dksJ0_isEmpty_0 8 rfl rfl)
theorem dJ0_isEmpty_11 : decode cJ0_isEmpty 11 = .ok (.iconst 0, 1) := dk_3 (dk_at dksJ0_isEmpty_0 11 rfl rfl)
theorem dJ0_isEmpty_12 : decode cJ0_isEmpty 12 = .ok (.ireturn, 1) := dk_172 (dk_at dksJ0_isEmpty_0 12 rfl rfl)
theorem q134 : (Jvm.Cond.initialized "java/util/AbstractCollection") ∈ lw_all := lw_g (lw_at lw_m1 3 rfl) rfl
theorem q207 : (Jvm.Cond.instanceMethod ({ cls := "java/util/AbstractCollection", name := "<init>", desc := "()V" } : Jvm.MethodName)) ∈ lw_all := lw_g (lw_at lw_m1 76 rfl) rfl
theorem q208 : (Jvm.Cond.code ({ cls := "java/util/AbstractCollection", name := "<init>", desc := "()V" } : Jvm.MethodName) prog_41_method_1_code (1 : Nat) (Option.none : Option Jvm.ClassFile.FieldType)) ∈ lw_all := lw_g (lw_at lw_m1 77 rfl) rfl
theorem q209 : (Jvm.Cond.methodLink "java/util/AbstractCollection" (1 : Nat) ({ cls := "java/lang/Object", name := "<init>", desc := "()V" } : Jvm.MethodName)) ∈ lw_all := lw_g (lw_at lw_m1 78 rfl) rfl
theorem q676 : (Jvm.Cond.instanceMethod ({ cls := "java/util/AbstractCollection", name := "isEmpty", desc := "()Z" } : Jvm.MethodName)) ∈ lw_all := lw_g (lw_at lw_m3 65 rfl) rfl
theorem q677 : (Jvm.Cond.publicMethod ({ cls := "java/util/AbstractCollection", name := "isEmpty", desc := "()Z" } : Jvm.MethodName)) ∈ lw_tbl := lw_at lw_m3 66 rfl
theorem q678 : (Jvm.Cond.code ({ cls := "java/util/AbstractCollection", name := "isEmpty", desc := "()Z" } : Jvm.MethodName) prog_41_method_4_code (1 : Nat) (Option.some Jvm.ClassFile.FieldType.boolean)) ∈ lw_all := lw_g (lw_at lw_m3 67 rfl) rfl
theorem q679 : (Jvm.Cond.methodLink "java/util/AbstractCollection" (7 : Nat) ({ cls := "java/util/AbstractCollection", name := "size", desc := "()I" } : Jvm.MethodName)) ∈ lw_all := lw_g (lw_at lw_m3 68 rfl) rfl
theorem q680 : (Jvm.Cond.declares ({ cls := "java/util/AbstractCollection", name := "size", desc := "()I" } : Jvm.MethodName)) ∈ lw_tbl := lw_at lw_m3 69 rfl
theorem q681 : (Jvm.Cond.sameMethod "java/util/AbstractCollection" "java/util/AbstractCollection" "size" "()I") ∈ lw_all := lw_g (lw_at lw_m3 70 rfl) rfl
/-! java/util/AbstractList -/
set_option maxRecDepth 100000
def RJ1 : String := "java/util/AbstractList"
abbrev cJ1_init : ByteArray := prog_42_method_1_code
def yJ1_init : MethodName := ⟨RJ1, "<init>", "()V"⟩
def dkwJ1_init_0 : List UInt8 := [42, 183, 0, 1, 42, 3, 181, 0, 7, 177]
abbrev dktJ1_init_0 : List UInt8 := dkwJ1_init_0 ++ []
theorem dksJ1_init_0 : cJ1_init.data.toList.drop 0 = dktJ1_init_0 := by decide +kernel
theorem dJ1_init_0 : decode cJ1_init 0 = .ok (.aload_n 0, 1) := dk_42 (dk_at dksJ1_init_0 0 rfl rfl)
theorem dJ1_init_1 : decode cJ1_init 1 = .ok (.invokespecial 1, 3) := dk_183 0 1 (dk_at dksJ1_init_0 1 rfl rfl)
theorem dJ1_init_4 : decode cJ1_init 4 = .ok (.aload_n 0, 1) := dk_42 (dk_at dksJ1_init_0 4 rfl rfl)
theorem dJ1_init_5 : decode cJ1_init 5 = .ok (.iconst 0, 1) := dk_3 (dk_at dksJ1_init_0 5 rfl rfl)
theorem dJ1_init_6 : decode cJ1_init 6 = .ok (.putfield 7, 3) := dk_181 0 7 (dk_at dksJ1_init_0 6 rfl rfl)
theorem dJ1_init_9 : decode cJ1_init 9 = .ok (.return_, 1) := dk_177 (dk_at dksJ1_init_0 9 rfl rfl)
abbrev cJ1_listIterator : ByteArray := prog_42_method_12_code
def yJ1_listIterator : MethodName := ⟨RJ1, "listIterator", "()Ljava/util/ListIterator;"⟩
def dkwJ1_listIterator_0 : List UInt8 := [42, 3, 182, 0, 47, 176]
abbrev dktJ1_listIterator_0 : List UInt8 := dkwJ1_listIterator_0 ++ []
theorem dksJ1_listIterator_0 : cJ1_listIterator.data.toList.drop 0 = dktJ1_listIterator_0 := by decide +kernel
theorem dJ1_listIterator_0 : decode cJ1_listIterator 0 = .ok (.aload_n 0, 1) := dk_42 (dk_at dksJ1_listIterator_0 0 rfl rfl)
theorem dJ1_listIterator_1 : decode cJ1_listIterator 1 = .ok (.iconst 0, 1) := dk_3 (dk_at dksJ1_listIterator_0 1 rfl rfl)
theorem dJ1_listIterator_2 : decode cJ1_listIterator 2 = .ok (.invokevirtual 47, 3) := dk_182 0 47 (dk_at dksJ1_listIterator_0 2 rfl rfl)
theorem dJ1_listIterator_5 : decode cJ1_listIterator 5 = .ok (.areturn, 1) := dk_176 (dk_at dksJ1_listIterator_0 5 rfl rfl)
theorem q135 : (Jvm.Cond.initialized "java/util/AbstractList") ∈ lw_all := lw_g (lw_at lw_m1 4 rfl) rfl
theorem q204 : (Jvm.Cond.instanceMethod ({ cls := "java/util/AbstractList", name := "<init>", desc := "()V" } : Jvm.MethodName)) ∈ lw_all := lw_g (lw_at lw_m1 73 rfl) rfl
theorem q205 : (Jvm.Cond.code ({ cls := "java/util/AbstractList", name := "<init>", desc := "()V" } : Jvm.MethodName) prog_42_method_1_code (1 : Nat) (Option.none : Option Jvm.ClassFile.FieldType)) ∈ lw_all := lw_g (lw_at lw_m1 74 rfl) rfl
theorem q206 : (Jvm.Cond.methodLink "java/util/AbstractList" (1 : Nat) ({ cls := "java/util/AbstractCollection", name := "<init>", desc := "()V" } : Jvm.MethodName)) ∈ lw_all := lw_g (lw_at lw_m1 75 rfl) rfl
theorem q216 : (Jvm.Cond.fieldLink "java/util/AbstractList" (7 : Nat) "java/util/AbstractList" "modCount" "I") ∈ lw_all := lw_g (lw_at lw_m1 85 rfl) rfl
theorem q229 : (Jvm.Cond.soleField "java/util/AbstractList" "modCount") ∈ lw_all := lw_g (lw_at lw_m1 98 rfl) rfl
theorem q1265 : (Jvm.Cond.declares ({ cls := "java/util/AbstractList", name := "listIterator", desc := "()Ljava/util/ListIterator;" } : Jvm.MethodName)) ∈ lw_tbl := lw_at lw_m5 174 rfl
theorem q1267 : (Jvm.Cond.instanceMethod ({ cls := "java/util/AbstractList", name := "listIterator", desc := "()Ljava/util/ListIterator;" } : Jvm.MethodName)) ∈ lw_all := lw_g (lw_at lw_m5 176 rfl) rfl
theorem q1268 : (Jvm.Cond.code ({ cls := "java/util/AbstractList", name := "listIterator", desc := "()Ljava/util/ListIterator;" } : Jvm.MethodName) prog_42_method_12_code (1 : Nat) (Option.some (Jvm.ClassFile.FieldType.object "java/util/ListIterator"))) ∈ lw_all := lw_g (lw_at lw_m5 177 rfl) rfl
theorem q1269 : (Jvm.Cond.methodLink "java/util/AbstractList" (47 : Nat) ({ cls := "java/util/AbstractList", name := "listIterator", desc := "(I)Ljava/util/ListIterator;" } : Jvm.MethodName)) ∈ lw_all := lw_g (lw_at lw_m5 178 rfl) rfl
theorem q1270 : (Jvm.Cond.instanceMethod ({ cls := "java/util/AbstractList", name := "listIterator", desc := "(I)Ljava/util/ListIterator;" } : Jvm.MethodName)) ∈ lw_all := lw_g (lw_at lw_m5 179 rfl) rfl
theorem q1271 : (Jvm.Cond.sameMethod "java/util/AbstractList" "java/util/AbstractList" "listIterator" "(I)Ljava/util/ListIterator;") ∈ lw_all := lw_g (lw_at lw_m5 180 rfl) rfl
theorem q1315 : (Jvm.Cond.declares ({ cls := "java/util/AbstractList", name := "listIterator", desc := "(I)Ljava/util/ListIterator;" } : Jvm.MethodName)) ∈ lw_tbl := lw_at lw_m5 224 rfl
theorem q1327 : (Jvm.Cond.sameMethod "java/util/AbstractList" "java/util/AbstractCollection" "size" "()I") ∈ lw_all := lw_g (lw_at lw_m5 236 rfl) rfl
theorem q1366 : (Jvm.Cond.declares ({ cls := "java/util/AbstractList", name := "get", desc := "(I)Ljava/lang/Object;" } : Jvm.MethodName)) ∈ lw_tbl := lw_at lw_m6 35 rfl
theorem q1367 : (Jvm.Cond.sameMethod "java/util/AbstractList" "java/util/AbstractList" "get" "(I)Ljava/lang/Object;") ∈ lw_all := lw_g (lw_at lw_m6 36 rfl) rfl
theorem q1655 : (Jvm.Cond.instanceMethod ({ cls := "java/util/AbstractList", name := "remove", desc := "(I)Ljava/lang/Object;" } : Jvm.MethodName)) ∈ lw_all := lw_g (lw_at lw_m7 84 rfl) rfl
theorem q1656 : (Jvm.Cond.sameMethod "java/util/AbstractList" "java/util/AbstractList" "remove" "(I)Ljava/lang/Object;") ∈ lw_all := lw_g (lw_at lw_m7 85 rfl) rfl
theorem q1659 : (Jvm.Cond.declares ({ cls := "java/util/AbstractList", name := "remove", desc := "(I)Ljava/lang/Object;" } : Jvm.MethodName)) ∈ lw_tbl := lw_at lw_m7 88 rfl
/-! java/lang/StringUTF16 -/
set_option maxRecDepth 100000
def RJ10 : String := "java/lang/StringUTF16"
abbrev cJ10_newBytesFor : ByteArray := prog_36_method_2_code
def yJ10_newBytesFor : MethodName := ⟨RJ10, "newBytesFor", "(I)[B"⟩
def dkwJ10_newBytesFor_0 : List UInt8 := [26, 184, 0, 11, 188, 8, 176]
abbrev dktJ10_newBytesFor_0 : List UInt8 := dkwJ10_newBytesFor_0 ++ []
theorem dksJ10_newBytesFor_0 : cJ10_newBytesFor.data.toList.drop 0 = dktJ10_newBytesFor_0 := by decide +kernel
theorem dJ10_newBytesFor_0 : decode cJ10_newBytesFor 0 = .ok (.iload_n 0, 1) := dk_26 (dk_at dksJ10_newBytesFor_0 0 rfl rfl)
theorem dJ10_newBytesFor_1 : decode cJ10_newBytesFor 1 = .ok (.invokestatic 11, 3) := dk_184 0 11 (dk_at dksJ10_newBytesFor_0 1 rfl rfl)
theorem dJ10_newBytesFor_4 : decode cJ10_newBytesFor 4 = .ok (.newarray .byte, 2) := dk_188_8 (dk_at dksJ10_newBytesFor_0 4 rfl rfl)
theorem dJ10_newBytesFor_6 : decode cJ10_newBytesFor 6 = .ok (.areturn, 1) := dk_176 (dk_at dksJ10_newBytesFor_0 6 rfl rfl)
abbrev cJ10_newBytesLength : ByteArray := prog_36_method_3_code
def yJ10_newBytesLength : MethodName := ⟨RJ10, "newBytesLength", "(I)I"⟩
def dkwJ10_newBytesLength_2 : List UInt8 := [182, 0, 32, 182, 0, 37, 183, 0, 41, 191, 26, 4, 120, 172]
abbrev dktJ10_newBytesLength_2 : List UInt8 := dkwJ10_newBytesLength_2 ++ []
def dkwJ10_newBytesLength_1 : List UInt8 := [187, 0, 23, 89, 183, 0, 25, 18, 26, 182, 0, 28, 26, 182, 0, 32, 18, 35, 182, 0, 28, 18, 20]
abbrev dktJ10_newBytesLength_1 : List UInt8 := dkwJ10_newBytesLength_1 ++ dktJ10_newBytesLength_2
def dkwJ10_newBytesLength_0 : List UInt8 := [26, 156, 0, 11, 187, 0, 17, 89, 183, 0, 19, 191, 26, 18, 20, 161, 0, 40, 187, 0, 21, 89]
abbrev dktJ10_newBytesLength_0 : List UInt8 := dkwJ10_newBytesLength_0 ++ dktJ10_newBytesLength_1
theorem dksJ10_newBytesLength_0 : cJ10_newBytesLength.data.toList.drop 0 = dktJ10_newBytesLength_0 := by decide +kernel
theorem dksJ10_newBytesLength_1 : cJ10_newBytesLength.data.toList.drop 22 = dktJ10_newBytesLength_1 := dk_seg dksJ10_newBytesLength_0 22 rfl rfl
theorem dksJ10_newBytesLength_2 : cJ10_newBytesLength.data.toList.drop 45 = dktJ10_newBytesLength_2 := dk_seg dksJ10_newBytesLength_1 23 rfl rfl
theorem dJ10_newBytesLength_0 : decode cJ10_newBytesLength 0 = .ok (.iload_n 0, 1) := dk_26 (dk_at dksJ10_newBytesLength_0 0 rfl rfl)
theorem dJ10_newBytesLength_1 : decode cJ10_newBytesLength 1 = .ok (.ifCond .ge 11, 3) := dk_156 0 11 (dk_at dksJ10_newBytesLength_0 1 rfl rfl)
theorem dJ10_newBytesLength_4 : decode cJ10_newBytesLength 4 = .ok (.new 17, 3) := dk_187 0 17 (dk_at dksJ10_newBytesLength_0 4 rfl rfl)
theorem dJ10_newBytesLength_7 : decode cJ10_newBytesLength 7 = .ok (.dup, 1) := dk_89 (dk_at dksJ10_newBytesLength_0 7 rfl rfl)
theorem dJ10_newBytesLength_8 : decode cJ10_newBytesLength 8 = .ok (.invokespecial 19, 3) := dk_183 0 19 (dk_at dksJ10_newBytesLength_0 8 rfl rfl)
theorem dJ10_newBytesLength_11 : decode cJ10_newBytesLength 11 = .ok (.athrow, 1) := dk_191 (dk_at dksJ10_newBytesLength_0 11 rfl rfl)
theorem dJ10_newBytesLength_12 : decode cJ10_newBytesLength 12 = .ok (.iload_n 0, 1) := dk_26 (dk_at dksJ10_newBytesLength_0 12 rfl rfl)
theorem dJ10_newBytesLength_13 : decode cJ10_newBytesLength 13 = .ok (.ldc 20, 2) := dk_18 20 (dk_at dksJ10_newBytesLength_0 13 rfl rfl)
theorem dJ10_newBytesLength_15 : decode cJ10_newBytesLength 15 = .ok (.if_icmp .lt 40, 3) := dk_161 0 40 (dk_at dksJ10_newBytesLength_0 15 rfl rfl)
theorem dJ10_newBytesLength_18 : decode cJ10_newBytesLength 18 = .ok (.new 21, 3) := dk_187 0 21 (dk_at dksJ10_newBytesLength_0 18 rfl rfl)
theorem dJ10_newBytesLength_21 : decode cJ10_newBytesLength 21 = .ok (.dup, 1) := dk_89 (dk_at dksJ10_newBytesLength_0 21 rfl rfl)
theorem dJ10_newBytesLength_22 : decode cJ10_newBytesLength 22 = .ok (.new 23, 3) := dk_187 0 23 (dk_at dksJ10_newBytesLength_1 0 rfl rfl)
theorem dJ10_newBytesLength_25 : decode cJ10_newBytesLength 25 = .ok (.dup, 1) := dk_89 (dk_at dksJ10_newBytesLength_1 3 rfl rfl)
theorem dJ10_newBytesLength_26 : decode cJ10_newBytesLength 26 = .ok (.invokespecial 25, 3) := dk_183 0 25 (dk_at dksJ10_newBytesLength_1 4 rfl rfl)
theorem dJ10_newBytesLength_29 : decode cJ10_newBytesLength 29 = .ok (.ldc 26, 2) := dk_18 26 (dk_at dksJ10_newBytesLength_1 7 rfl rfl)
theorem dJ10_newBytesLength_31 : decode cJ10_newBytesLength 31 = .ok (.invokevirtual 28, 3) := dk_182 0 28 (dk_at dksJ10_newBytesLength_1 9 rfl rfl)
theorem dJ10_newBytesLength_34 : decode cJ10_newBytesLength 34 = .ok (.iload_n 0, 1) := dk_26 (dk_at dksJ10_newBytesLength_1 12 rfl rfl)
theorem dJ10_newBytesLength_35 : decode cJ10_newBytesLength 35 = .ok (.invokevirtual 32, 3) := dk_182 0 32 (dk_at dksJ10_newBytesLength_1 13 rfl rfl)
theorem dJ10_newBytesLength_38 : decode cJ10_newBytesLength 38 = .ok (.ldc 35, 2) := dk_18 35 (dk_at dksJ10_newBytesLength_1 16 rfl rfl)
theorem dJ10_newBytesLength_40 : decode cJ10_newBytesLength 40 = .ok (.invokevirtual 28, 3) := dk_182 0 28 (dk_at dksJ10_newBytesLength_1 18 rfl rfl)
theorem dJ10_newBytesLength_43 : decode cJ10_newBytesLength 43 = .ok (.ldc 20, 2) := dk_18 20 (dk_at dksJ10_newBytesLength_1 21 rfl rfl)
theorem dJ10_newBytesLength_45 : decode cJ10_newBytesLength 45 = .ok (.invokevirtual 32, 3) := dk_182 0 32 (dk_at dksJ10_newBytesLength_2 0 rfl rfl)
theorem dJ10_newBytesLength_48 : decode cJ10_newBytesLength 48 = .ok (.invokevirtual 37, 3) := dk_182 0 37 (dk_at dksJ10_newBytesLength_2 3 rfl rfl)
theorem dJ10_newBytesLength_51 : decode cJ10_newBytesLength 51 = .ok (.invokespecial 41, 3) := dk_183 0 41 (dk_at dksJ10_newBytesLength_2 6 rfl rfl)
theorem dJ10_newBytesLength_54 : decode cJ10_newBytesLength 54 = .ok (.athrow, 1) := dk_191 (dk_at dksJ10_newBytesLength_2 9 rfl rfl)
theorem dJ10_newBytesLength_55 : decode cJ10_newBytesLength 55 = .ok (.iload_n 0, 1) := dk_26 (dk_at dksJ10_newBytesLength_2 10 rfl rfl)
theorem dJ10_newBytesLength_56 : decode cJ10_newBytesLength 56 = .ok (.iconst 1, 1) := dk_4 (dk_at dksJ10_newBytesLength_2 11 rfl rfl)
theorem dJ10_newBytesLength_57 : decode cJ10_newBytesLength 57 = .ok (.ishl, 1) := dk_120 (dk_at dksJ10_newBytesLength_2 12 rfl rfl)
theorem dJ10_newBytesLength_58 : decode cJ10_newBytesLength 58 = .ok (.ireturn, 1) := dk_172 (dk_at dksJ10_newBytesLength_2 13 rfl rfl)
abbrev cJ10_putCharsAt : ByteArray := prog_36_method_81_code
def yJ10_putCharsAt : MethodName := ⟨RJ10, "putCharsAt", "([BICCCC)I"⟩
def dkwJ10_putCharsAt_3 : List UInt8 := [21, 6, 172]
abbrev dktJ10_putCharsAt_3 : List UInt8 := dkwJ10_putCharsAt_3 ++ []
def dkwJ10_putCharsAt_2 : List UInt8 := [184, 0, 111, 178, 0, 44, 154, 0, 17, 27, 21, 6, 159, 0, 11, 187, 0, 52, 89, 183, 0, 66, 191]
abbrev dktJ10_putCharsAt_2 : List UInt8 := dkwJ10_putCharsAt_2 ++ dktJ10_putCharsAt_3
def dkwJ10_putCharsAt_1 : List UInt8 := [132, 1, 1, 29, 184, 0, 111, 42, 27, 132, 1, 1, 21, 4, 184, 0, 111, 42, 27, 132, 1, 1, 21, 5]
abbrev dktJ10_putCharsAt_1 : List UInt8 := dkwJ10_putCharsAt_1 ++ dktJ10_putCharsAt_2
def dkwJ10_putCharsAt_0 : List UInt8 := [27, 7, 96, 54, 6, 27, 21, 6, 42, 184, 0, 96, 42, 27, 132, 1, 1, 28, 184, 0, 111, 42, 27]
abbrev dktJ10_putCharsAt_0 : List UInt8 := dkwJ10_putCharsAt_0 ++ dktJ10_putCharsAt_1
theorem dksJ10_putCharsAt_0 : cJ10_putCharsAt.data.toList.drop 0 = dktJ10_putCharsAt_0 := by decide +kernel
theorem dksJ10_putCharsAt_1 : cJ10_putCharsAt.data.toList.drop 23 = dktJ10_putCharsAt_1 := dk_seg dksJ10_putCharsAt_0 23 rfl rfl
theorem dksJ10_putCharsAt_2 : cJ10_putCharsAt.data.toList.drop 47 = dktJ10_putCharsAt_2 := dk_seg dksJ10_putCharsAt_1 24 rfl rfl
theorem dksJ10_putCharsAt_3 : cJ10_putCharsAt.data.toList.drop 70 = dktJ10_putCharsAt_3 := dk_seg dksJ10_putCharsAt_2 23 rfl rfl
theorem dJ10_putCharsAt_0 : decode cJ10_putCharsAt 0 = .ok (.iload_n 1, 1) := dk_27 (dk_at dksJ10_putCharsAt_0 0 rfl rfl)
theorem dJ10_putCharsAt_1 : decode cJ10_putCharsAt 1 = .ok (.iconst 4, 1) := dk_7 (dk_at dksJ10_putCharsAt_0 1 rfl rfl)
theorem dJ10_putCharsAt_2 : decode cJ10_putCharsAt 2 = .ok (.iadd, 1) := dk_96 (dk_at dksJ10_putCharsAt_0 2 rfl rfl)
theorem dJ10_putCharsAt_3 : decode cJ10_putCharsAt 3 = .ok (.istore 6, 2) := dk_54 6 (dk_at dksJ10_putCharsAt_0 3 rfl rfl)
theorem dJ10_putCharsAt_5 : decode cJ10_putCharsAt 5 = .ok (.iload_n 1, 1) := dk_27 (dk_at dksJ10_putCharsAt_0 5 rfl rfl)
theorem dJ10_putCharsAt_6 : decode cJ10_putCharsAt 6 = .ok (.iload 6, 2) := dk_21 6 (dk_at dksJ10_putCharsAt_0 6 rfl rfl)
theorem dJ10_putCharsAt_8 : decode cJ10_putCharsAt 8 = .ok (.aload_n 0, 1) := dk_42 (dk_at dksJ10_putCharsAt_0 8 rfl rfl)
theorem dJ10_putCharsAt_9 : decode cJ10_putCharsAt 9 = .ok (.invokestatic 96, 3) := dk_184 0 96 (dk_at dksJ10_putCharsAt_0 9 rfl rfl)
theorem dJ10_putCharsAt_12 : decode cJ10_putCharsAt 12 = .ok (.aload_n 0, 1) := dk_42 (dk_at dksJ10_putCharsAt_0 12 rfl rfl)
theorem dJ10_putCharsAt_13 : decode cJ10_putCharsAt 13 = .ok (.iload_n 1, 1) := dk_27 (dk_at dksJ10_putCharsAt_0 13 rfl rfl)
theorem dJ10_putCharsAt_14 : decode cJ10_putCharsAt 14 = .ok (.iinc 1 1, 3) := dk_132 1 1 (dk_at dksJ10_putCharsAt_0 14 rfl rfl)
theorem dJ10_putCharsAt_17 : decode cJ10_putCharsAt 17 = .ok (.iload_n 2, 1) := dk_28 (dk_at dksJ10_putCharsAt_0 17 rfl rfl)
theorem dJ10_putCharsAt_18 : decode cJ10_putCharsAt 18 = .ok (.invokestatic 111, 3) := dk_184 0 111 (dk_at dksJ10_putCharsAt_0 18 rfl rfl)
theorem dJ10_putCharsAt_21 : decode cJ10_putCharsAt 21 = .ok (.aload_n 0, 1) := dk_42 (dk_at dksJ10_putCharsAt_0 21 rfl rfl)
theorem dJ10_putCharsAt_22 : decode cJ10_putCharsAt 22 = .ok (.iload_n 1, 1) := dk_27 (dk_at dksJ10_putCharsAt_0 22 rfl rfl)
theorem dJ10_putCharsAt_23 : decode cJ10_putCharsAt 23 = .ok (.iinc 1 1, 3) := dk_132 1 1 (dk_at dksJ10_putCharsAt_1 0 rfl rfl)
theorem dJ10_putCharsAt_26 : decode cJ10_putCharsAt 26 = .ok (.iload_n 3, 1) := dk_29 (dk_at dksJ10_putCharsAt_1 3 rfl rfl)
theorem dJ10_putCharsAt_27 : decode cJ10_putCharsAt 27 = .ok (.invokestatic 111, 3) := dk_184 0 111 (dk_at dksJ10_putCharsAt_1 4 rfl rfl)
theorem dJ10_putCharsAt_30 : decode cJ10_putCharsAt 30 = .ok (.aload_n 0, 1) := dk_42 (dk_at dksJ10_putCharsAt_1 7 rfl rfl)
theorem dJ10_putCharsAt_31 : decode cJ10_putCharsAt 31 = .ok (.iload_n 1, 1) := dk_27 (dk_at dksJ10_putCharsAt_1 8 rfl rfl)
theorem dJ10_putCharsAt_32 : decode cJ10_putCharsAt 32 = .ok (.iinc 1 1, 3) := dk_132 1 1 (dk_at dksJ10_putCharsAt_1 9 rfl rfl)
theorem dJ10_putCharsAt_35 : decode cJ10_putCharsAt 35 = .ok (.iload 4, 2) := dk_21 4 (dk_at dksJ10_putCharsAt_1 12 rfl rfl)
theorem dJ10_putCharsAt_37 : decode cJ10_putCharsAt 37 = .ok (.invokestatic 111, 3) := dk_184 0 111 (dk_at dksJ10_putCharsAt_1 14 rfl rfl)
theorem dJ10_putCharsAt_40 : decode cJ10_putCharsAt 40 = .ok (.aload_n 0, 1) := dk_42 (dk_at dksJ10_putCharsAt_1 17 rfl rfl)
theorem dJ10_putCharsAt_41 : decode cJ10_putCharsAt 41 = .ok (.iload_n 1, 1) := dk_27 (dk_at dksJ10_putCharsAt_1 18 rfl rfl)
theorem dJ10_putCharsAt_42 : decode cJ10_putCharsAt 42 = .ok (.iinc 1 1, 3) := dk_132 1 1 (dk_at dksJ10_putCharsAt_1 19 rfl rfl)
theorem dJ10_putCharsAt_45 : decode cJ10_putCharsAt 45 = .ok (.iload 5, 2) := dk_21 5 (dk_at dksJ10_putCharsAt_1 22 rfl rfl)
theorem dJ10_putCharsAt_47 : decode cJ10_putCharsAt 47 = .ok (.invokestatic 111, 3) := dk_184 0 111 (dk_at dksJ10_putCharsAt_2 0 rfl rfl)
theorem dJ10_putCharsAt_50 : decode cJ10_putCharsAt 50 = .ok (.getstatic 44, 3) := dk_178 0 44 (dk_at dksJ10_putCharsAt_2 3 rfl rfl)
theorem dJ10_putCharsAt_53 : decode cJ10_putCharsAt 53 = .ok (.ifCond .ne 17, 3) := dk_154 0 17 (dk_at dksJ10_putCharsAt_2 6 rfl rfl)
theorem dJ10_putCharsAt_56 : decode cJ10_putCharsAt 56 = .ok (.iload_n 1, 1) := dk_27 (dk_at dksJ10_putCharsAt_2 9 rfl rfl)
theorem dJ10_putCharsAt_57 : decode cJ10_putCharsAt 57 = .ok (.iload 6, 2) := dk_21 6 (dk_at dksJ10_putCharsAt_2 10 rfl rfl)
theorem dJ10_putCharsAt_59 : decode cJ10_putCharsAt 59 = .ok (.if_icmp .eq 11, 3) := dk_159 0 11 (dk_at dksJ10_putCharsAt_2 12 rfl rfl)
theorem dJ10_putCharsAt_62 : decode cJ10_putCharsAt 62 = .ok (.new 52, 3) := dk_187 0 52 (dk_at dksJ10_putCharsAt_2 15 rfl rfl)
theorem dJ10_putCharsAt_65 : decode cJ10_putCharsAt 65 = .ok (.dup, 1) := dk_89 (dk_at dksJ10_putCharsAt_2 18 rfl rfl)
theorem dJ10_putCharsAt_66 : decode cJ10_putCharsAt 66 = .ok (.invokespecial 66, 3) := dk_183 0 66 (dk_at dksJ10_putCharsAt_2 19 rfl rfl)
theorem dJ10_putCharsAt_69 : decode cJ10_putCharsAt 69 = .ok (.athrow, 1) := dk_191 (dk_at dksJ10_putCharsAt_2 22 rfl rfl)
theorem dJ10_putCharsAt_70 : decode cJ10_putCharsAt 70 = .ok (.iload 6, 2) := dk_21 6 (dk_at dksJ10_putCharsAt_3 0 rfl rfl)
theorem dJ10_putCharsAt_72 : decode cJ10_putCharsAt 72 = .ok (.ireturn, 1) := dk_172 (dk_at dksJ10_putCharsAt_3 2 rfl rfl)
abbrev cJ10_checkBoundsBeginEnd : ByteArray := prog_36_method_93_code
def yJ10_checkBoundsBeginEnd : MethodName := ⟨RJ10, "checkBoundsBeginEnd", "(II[B)V"⟩
def dkwJ10_checkBoundsBeginEnd_0 : List UInt8 := [26, 27, 44, 184, 0, 48, 184, 0, 241, 177]
abbrev dktJ10_checkBoundsBeginEnd_0 : List UInt8 := dkwJ10_checkBoundsBeginEnd_0 ++ []
theorem dksJ10_checkBoundsBeginEnd_0 : cJ10_checkBoundsBeginEnd.data.toList.drop 0 = dktJ10_checkBoundsBeginEnd_0 := by decide +kernel
theorem dJ10_checkBoundsBeginEnd_0 : decode cJ10_checkBoundsBeginEnd 0 = .ok (.iload_n 0, 1) := dk_26 (dk_at dksJ10_checkBoundsBeginEnd_0 0 rfl rfl)
theorem dJ10_checkBoundsBeginEnd_1 : decode cJ10_checkBoundsBeginEnd 1 = .ok (.iload_n 1, 1) := dk_27 (dk_at dksJ10_checkBoundsBeginEnd_0 1 rfl rfl)
theorem dJ10_checkBoundsBeginEnd_2 : decode cJ10_checkBoundsBeginEnd 2 = .ok (.aload_n 2, 1) := dk_44 (dk_at dksJ10_checkBoundsBeginEnd_0 2 rfl rfl)
theorem dJ10_checkBoundsBeginEnd_3 : decode cJ10_checkBoundsBeginEnd 3 = .ok (.invokestatic 48, 3) := dk_184 0 48 (dk_at dksJ10_checkBoundsBeginEnd_0 3 rfl rfl)
theorem dJ10_checkBoundsBeginEnd_6 : decode cJ10_checkBoundsBeginEnd 6 = .ok (.invokestatic 241, 3) := dk_184 0 241 (dk_at dksJ10_checkBoundsBeginEnd_0 6 rfl rfl)
theorem dJ10_checkBoundsBeginEnd_9 : decode cJ10_checkBoundsBeginEnd 9 = .ok (.return_, 1) := dk_177 (dk_at dksJ10_checkBoundsBeginEnd_0 9 rfl rfl)
abbrev cJ10_length : ByteArray := prog_36_method_6_code
def yJ10_length : MethodName := ⟨RJ10, "length", "([B)I"⟩
def dkwJ10_length_0 : List UInt8 := [42, 190, 4, 122, 172]
abbrev dktJ10_length_0 : List UInt8 := dkwJ10_length_0 ++ []
theorem dksJ10_length_0 : cJ10_length.data.toList.drop 0 = dktJ10_length_0 := by decide +kernel
theorem dJ10_length_0 : decode cJ10_length 0 = .ok (.aload_n 0, 1) := dk_42 (dk_at dksJ10_length_0 0 rfl rfl)
theorem dJ10_length_1 : decode cJ10_length 1 = .ok (.arraylength, 1) := dk_190 (dk_at dksJ10_length_0 1 rfl rfl)
theorem dJ10_length_2 : decode cJ10_length 2 = .ok (.iconst 1, 1) := dk_4 (dk_at dksJ10_length_0 2 rfl rfl)
theorem dJ10_length_3 : decode cJ10_length 3 = .ok (.ishr, 1) := dk_122 (dk_at dksJ10_length_0 3 rfl rfl)
theorem dJ10_length_4 : decode cJ10_length 4 = .ok (.ireturn, 1) := dk_172 (dk_at dksJ10_length_0 4 rfl rfl)
abbrev cJ10_putChar : ByteArray := prog_36_method_4_code
def yJ10_putChar : MethodName := ⟨RJ10, "putChar", "([BII)V"⟩
def dkwJ10_putChar_2 : List UInt8 := [178, 0, 63, 122, 145, 84, 177]
abbrev dktJ10_putChar_2 : List UInt8 := dkwJ10_putChar_2 ++ []
def dkwJ10_putChar_1 : List UInt8 := [183, 0, 56, 191, 27, 4, 120, 60, 42, 27, 132, 1, 1, 28, 178, 0, 59, 122, 145, 84, 42, 27, 28]
abbrev dktJ10_putChar_1 : List UInt8 := dkwJ10_putChar_1 ++ dktJ10_putChar_2
def dkwJ10_putChar_0 : List UInt8 := [178, 0, 44, 154, 0, 25, 27, 155, 0, 11, 27, 42, 184, 0, 48, 161, 0, 13, 187, 0, 52, 89, 18, 54]
abbrev dktJ10_putChar_0 : List UInt8 := dkwJ10_putChar_0 ++ dktJ10_putChar_1
theorem dksJ10_putChar_0 : cJ10_putChar.data.toList.drop 0 = dktJ10_putChar_0 := by decide +kernel
theorem dksJ10_putChar_1 : cJ10_putChar.data.toList.drop 24 = dktJ10_putChar_1 := dk_seg dksJ10_putChar_0 24 rfl rfl
theorem dksJ10_putChar_2 : cJ10_putChar.data.toList.drop 47 = dktJ10_putChar_2 := dk_seg dksJ10_putChar_1 23 rfl rfl
theorem dJ10_putChar_0 : decode cJ10_putChar 0 = .ok (.getstatic 44, 3) := dk_178 0 44 (dk_at dksJ10_putChar_0 0 rfl rfl)
theorem dJ10_putChar_3 : decode cJ10_putChar 3 = .ok (.ifCond .ne 25, 3) := dk_154 0 25 (dk_at dksJ10_putChar_0 3 rfl rfl)
theorem dJ10_putChar_6 : decode cJ10_putChar 6 = .ok (.iload_n 1, 1) := dk_27 (dk_at dksJ10_putChar_0 6 rfl rfl)
theorem dJ10_putChar_7 : decode cJ10_putChar 7 = .ok (.ifCond .lt 11, 3) := dk_155 0 11 (dk_at dksJ10_putChar_0 7 rfl rfl)
theorem dJ10_putChar_10 : decode cJ10_putChar 10 = .ok (.iload_n 1, 1) := dk_27 (dk_at dksJ10_putChar_0 10 rfl rfl)
theorem dJ10_putChar_11 : decode cJ10_putChar 11 = .ok (.aload_n 0, 1) := dk_42 (dk_at dksJ10_putChar_0 11 rfl rfl)
theorem dJ10_putChar_12 : decode cJ10_putChar 12 = .ok (.invokestatic 48, 3) := dk_184 0 48 (dk_at dksJ10_putChar_0 12 rfl rfl)
theorem dJ10_putChar_15 : decode cJ10_putChar 15 = .ok (.if_icmp .lt 13, 3) := dk_161 0 13 (dk_at dksJ10_putChar_0 15 rfl rfl)
theorem dJ10_putChar_18 : decode cJ10_putChar 18 = .ok (.new 52, 3) := dk_187 0 52 (dk_at dksJ10_putChar_0 18 rfl rfl)
theorem dJ10_putChar_21 : decode cJ10_putChar 21 = .ok (.dup, 1) := dk_89 (dk_at dksJ10_putChar_0 21 rfl rfl)
theorem dJ10_putChar_22 : decode cJ10_putChar 22 = .ok (.ldc 54, 2) := dk_18 54 (dk_at dksJ10_putChar_0 22 rfl rfl)
theorem dJ10_putChar_24 : decode cJ10_putChar 24 = .ok (.invokespecial 56, 3) := dk_183 0 56 (dk_at dksJ10_putChar_1 0 rfl rfl)
theorem dJ10_putChar_27 : decode cJ10_putChar 27 = .ok (.athrow, 1) := dk_191 (dk_at dksJ10_putChar_1 3 rfl rfl)
theorem dJ10_putChar_28 : decode cJ10_putChar 28 = .ok (.iload_n 1, 1) := dk_27 (dk_at dksJ10_putChar_1 4 rfl rfl)
theorem dJ10_putChar_29 : decode cJ10_putChar 29 = .ok (.iconst 1, 1) := dk_4 (dk_at dksJ10_putChar_1 5 rfl rfl)
theorem dJ10_putChar_30 : decode cJ10_putChar 30 = .ok (.ishl, 1) := dk_120 (dk_at dksJ10_putChar_1 6 rfl rfl)
theorem dJ10_putChar_31 : decode cJ10_putChar 31 = .ok (.istore_n 1, 1) := dk_60 (dk_at dksJ10_putChar_1 7 rfl rfl)
theorem dJ10_putChar_32 : decode cJ10_putChar 32 = .ok (.aload_n 0, 1) := dk_42 (dk_at dksJ10_putChar_1 8 rfl rfl)
theorem dJ10_putChar_33 : decode cJ10_putChar 33 = .ok (.iload_n 1, 1) := dk_27 (dk_at dksJ10_putChar_1 9 rfl rfl)
theorem dJ10_putChar_34 : decode cJ10_putChar 34 = .ok (.iinc 1 1, 3) := dk_132 1 1 (dk_at dksJ10_putChar_1 10 rfl rfl)
theorem dJ10_putChar_37 : decode cJ10_putChar 37 = .ok (.iload_n 2, 1) := dk_28 (dk_at dksJ10_putChar_1 13 rfl rfl)
theorem dJ10_putChar_38 : decode cJ10_putChar 38 = .ok (.getstatic 59, 3) := dk_178 0 59 (dk_at dksJ10_putChar_1 14 rfl rfl)
theorem dJ10_putChar_41 : decode cJ10_putChar 41 = .ok (.ishr, 1) := dk_122 (dk_at dksJ10_putChar_1 17 rfl rfl)
theorem dJ10_putChar_42 : decode cJ10_putChar 42 = .ok (.i2b, 1) := dk_145 (dk_at dksJ10_putChar_1 18 rfl rfl)
theorem dJ10_putChar_43 : decode cJ10_putChar 43 = .ok (.bastore, 1) := dk_84 (dk_at dksJ10_putChar_1 19 rfl rfl)
theorem dJ10_putChar_44 : decode cJ10_putChar 44 = .ok (.aload_n 0, 1) := dk_42 (dk_at dksJ10_putChar_1 20 rfl rfl)
theorem dJ10_putChar_45 : decode cJ10_putChar 45 = .ok (.iload_n 1, 1) := dk_27 (dk_at dksJ10_putChar_1 21 rfl rfl)
theorem dJ10_putChar_46 : decode cJ10_putChar 46 = .ok (.iload_n 2, 1) := dk_28 (dk_at dksJ10_putChar_1 22 rfl rfl)
theorem dJ10_putChar_47 : decode cJ10_putChar 47 = .ok (.getstatic 63, 3) := dk_178 0 63 (dk_at dksJ10_putChar_2 0 rfl rfl)
theorem dJ10_putChar_50 : decode cJ10_putChar 50 = .ok (.ishr, 1) := dk_122 (dk_at dksJ10_putChar_2 3 rfl rfl)
theorem dJ10_putChar_51 : decode cJ10_putChar 51 = .ok (.i2b, 1) := dk_145 (dk_at dksJ10_putChar_2 4 rfl rfl)
theorem dJ10_putChar_52 : decode cJ10_putChar 52 = .ok (.bastore, 1) := dk_84 (dk_at dksJ10_putChar_2 5 rfl rfl)
theorem dJ10_putChar_53 : decode cJ10_putChar 53 = .ok (.return_, 1) := dk_177 (dk_at dksJ10_putChar_2 6 rfl rfl)
abbrev cJ10_inflate : ByteArray := prog_36_method_86_code
def yJ10_inflate : MethodName := ⟨RJ10, "inflate", "([BI[BII)V"⟩
def dkwJ10_inflate_1 : List UInt8 := [132, 1, 1, 51, 17, 0, 255, 126, 184, 0, 111, 132, 5, 1, 167, 255, 228, 177]
abbrev dktJ10_inflate_1 : List UInt8 := dkwJ10_inflate_1 ++ []
def dkwJ10_inflate_0 : List UInt8 := [29, 21, 4, 44, 184, 0, 173, 3, 54, 5, 21, 5, 21, 4, 162, 0, 27, 44, 29, 132, 3, 1, 42, 27]
abbrev dktJ10_inflate_0 : List UInt8 := dkwJ10_inflate_0 ++ dktJ10_inflate_1
theorem dksJ10_inflate_0 : cJ10_inflate.data.toList.drop 0 = dktJ10_inflate_0 := by decide +kernel
theorem dksJ10_inflate_1 : cJ10_inflate.data.toList.drop 24 = dktJ10_inflate_1 := dk_seg dksJ10_inflate_0 24 rfl rfl
theorem dJ10_inflate_0 : decode cJ10_inflate 0 = .ok (.iload_n 3, 1) := dk_29 (dk_at dksJ10_inflate_0 0 rfl rfl)
theorem dJ10_inflate_1 : decode cJ10_inflate 1 = .ok (.iload 4, 2) := dk_21 4 (dk_at dksJ10_inflate_0 1 rfl rfl)
theorem dJ10_inflate_3 : decode cJ10_inflate 3 = .ok (.aload_n 2, 1) := dk_44 (dk_at dksJ10_inflate_0 3 rfl rfl)
theorem dJ10_inflate_4 : decode cJ10_inflate 4 = .ok (.invokestatic 173, 3) := dk_184 0 173 (dk_at dksJ10_inflate_0 4 rfl rfl)
theorem dJ10_inflate_7 : decode cJ10_inflate 7 = .ok (.iconst 0, 1) := dk_3 (dk_at dksJ10_inflate_0 7 rfl rfl)
theorem dJ10_inflate_8 : decode cJ10_inflate 8 = .ok (.istore 5, 2) := dk_54 5 (dk_at dksJ10_inflate_0 8 rfl rfl)
theorem dJ10_inflate_10 : decode cJ10_inflate 10 = .ok (.iload 5, 2) := dk_21 5 (dk_at dksJ10_inflate_0 10 rfl rfl)
theorem dJ10_inflate_12 : decode cJ10_inflate 12 = .ok (.iload 4, 2) := dk_21 4 (dk_at dksJ10_inflate_0 12 rfl rfl)
theorem dJ10_inflate_14 : decode cJ10_inflate 14 = .ok (.if_icmp .ge 27, 3) := dk_162 0 27 (dk_at dksJ10_inflate_0 14 rfl rfl)
theorem dJ10_inflate_17 : decode cJ10_inflate 17 = .ok (.aload_n 2, 1) := dk_44 (dk_at dksJ10_inflate_0 17 rfl rfl)
theorem dJ10_inflate_18 : decode cJ10_inflate 18 = .ok (.iload_n 3, 1) := dk_29 (dk_at dksJ10_inflate_0 18 rfl rfl)
theorem dJ10_inflate_19 : decode cJ10_inflate 19 = .ok (.iinc 3 1, 3) := dk_132 3 1 (dk_at dksJ10_inflate_0 19 rfl rfl)
theorem dJ10_inflate_22 : decode cJ10_inflate 22 = .ok (.aload_n 0, 1) := dk_42 (dk_at dksJ10_inflate_0 22 rfl rfl)
theorem dJ10_inflate_23 : decode cJ10_inflate 23 = .ok (.iload_n 1, 1) := dk_27 (dk_at dksJ10_inflate_0 23 rfl rfl)
theorem dJ10_inflate_24 : decode cJ10_inflate 24 = .ok (.iinc 1 1, 3) := dk_132 1 1 (dk_at dksJ10_inflate_1 0 rfl rfl)
theorem dJ10_inflate_27 : decode cJ10_inflate 27 = .ok (.baload, 1) := dk_51 (dk_at dksJ10_inflate_1 3 rfl rfl)
theorem dJ10_inflate_28 : decode cJ10_inflate 28 = .ok (.sipush 255, 3) := dk_17 0 255 (dk_at dksJ10_inflate_1 4 rfl rfl)
theorem dJ10_inflate_31 : decode cJ10_inflate 31 = .ok (.iand, 1) := dk_126 (dk_at dksJ10_inflate_1 7 rfl rfl)
theorem dJ10_inflate_32 : decode cJ10_inflate 32 = .ok (.invokestatic 111, 3) := dk_184 0 111 (dk_at dksJ10_inflate_1 8 rfl rfl)
theorem dJ10_inflate_35 : decode cJ10_inflate 35 = .ok (.iinc 5 1, 3) := dk_132 5 1 (dk_at dksJ10_inflate_1 11 rfl rfl)
theorem dJ10_inflate_38 : decode cJ10_inflate 38 = .ok (.goto (-28), 3) := dk_167 255 228 (dk_at dksJ10_inflate_1 14 rfl rfl)
theorem dJ10_inflate_41 : decode cJ10_inflate 41 = .ok (.return_, 1) := dk_177 (dk_at dksJ10_inflate_1 17 rfl rfl)
abbrev cJ10_checkBoundsOffCount : ByteArray := prog_36_method_94_code
def yJ10_checkBoundsOffCount : MethodName := ⟨RJ10, "checkBoundsOffCount", "(II[B)V"⟩
def dkwJ10_checkBoundsOffCount_0 : List UInt8 := [26, 27, 44, 184, 0, 48, 184, 1, 163, 87, 177]
abbrev dktJ10_checkBoundsOffCount_0 : List UInt8 := dkwJ10_checkBoundsOffCount_0 ++ []
theorem dksJ10_checkBoundsOffCount_0 : cJ10_checkBoundsOffCount.data.toList.drop 0 = dktJ10_checkBoundsOffCount_0 := by decide +kernel
theorem dJ10_checkBoundsOffCount_0 : decode cJ10_checkBoundsOffCount 0 = .ok (.iload_n 0, 1) := dk_26 (dk_at dksJ10_checkBoundsOffCount_0 0 rfl rfl)
theorem dJ10_checkBoundsOffCount_1 : decode cJ10_checkBoundsOffCount 1 = .ok (.iload_n 1, 1) := dk_27 (dk_at dksJ10_checkBoundsOffCount_0 1 rfl rfl)
theorem dJ10_checkBoundsOffCount_2 : decode cJ10_checkBoundsOffCount 2 = .ok (.aload_n 2, 1) := dk_44 (dk_at dksJ10_checkBoundsOffCount_0 2 rfl rfl)
theorem dJ10_checkBoundsOffCount_3 : decode cJ10_checkBoundsOffCount 3 = .ok (.invokestatic 48, 3) := dk_184 0 48 (dk_at dksJ10_checkBoundsOffCount_0 3 rfl rfl)
theorem dJ10_checkBoundsOffCount_6 : decode cJ10_checkBoundsOffCount 6 = .ok (.invokestatic 419, 3) := dk_184 1 163 (dk_at dksJ10_checkBoundsOffCount_0 6 rfl rfl)
theorem dJ10_checkBoundsOffCount_9 : decode cJ10_checkBoundsOffCount 9 = .ok (.pop, 1) := dk_87 (dk_at dksJ10_checkBoundsOffCount_0 9 rfl rfl)
theorem dJ10_checkBoundsOffCount_10 : decode cJ10_checkBoundsOffCount 10 = .ok (.return_, 1) := dk_177 (dk_at dksJ10_checkBoundsOffCount_0 10 rfl rfl)
abbrev cJ10_compress : ByteArray := prog_36_method_17_code
def yJ10_compress : MethodName := ⟨RJ10, "compress", "([BII)[B"⟩
def dkwJ10_compress_2 : List UInt8 := [25, 5, 3, 45, 3, 28, 184, 0, 123, 28, 159, 0, 6, 25, 5, 176, 45, 176]
abbrev dktJ10_compress_2 : List UInt8 := dkwJ10_compress_2 ++ []
def dkwJ10_compress_1 : List UInt8 := [27, 28, 96, 184, 0, 11, 184, 0, 126, 58, 5, 25, 5, 21, 4, 184, 0, 71, 17, 0, 255, 163, 0, 16]
abbrev dktJ10_compress_1 : List UInt8 := dkwJ10_compress_1 ++ dktJ10_compress_2
def dkwJ10_compress_0 : List UInt8 := [28, 188, 8, 78, 42, 27, 45, 3, 28, 184, 0, 123, 54, 4, 21, 4, 28, 159, 0, 47, 42, 27, 4, 120]
abbrev dktJ10_compress_0 : List UInt8 := dkwJ10_compress_0 ++ dktJ10_compress_1
theorem dksJ10_compress_0 : cJ10_compress.data.toList.drop 0 = dktJ10_compress_0 := by decide +kernel
theorem dksJ10_compress_1 : cJ10_compress.data.toList.drop 24 = dktJ10_compress_1 := dk_seg dksJ10_compress_0 24 rfl rfl
theorem dksJ10_compress_2 : cJ10_compress.data.toList.drop 48 = dktJ10_compress_2 := dk_seg dksJ10_compress_1 24 rfl rfl
theorem dJ10_compress_0 : decode cJ10_compress 0 = .ok (.iload_n 2, 1) := dk_28 (dk_at dksJ10_compress_0 0 rfl rfl)
theorem dJ10_compress_1 : decode cJ10_compress 1 = .ok (.newarray .byte, 2) := dk_188_8 (dk_at dksJ10_compress_0 1 rfl rfl)
theorem dJ10_compress_3 : decode cJ10_compress 3 = .ok (.astore_n 3, 1) := dk_78 (dk_at dksJ10_compress_0 3 rfl rfl)
theorem dJ10_compress_4 : decode cJ10_compress 4 = .ok (.aload_n 0, 1) := dk_42 (dk_at dksJ10_compress_0 4 rfl rfl)
theorem dJ10_compress_5 : decode cJ10_compress 5 = .ok (.iload_n 1, 1) := dk_27 (dk_at dksJ10_compress_0 5 rfl rfl)
theorem dJ10_compress_6 : decode cJ10_compress 6 = .ok (.aload_n 3, 1) := dk_45 (dk_at dksJ10_compress_0 6 rfl rfl)
theorem dJ10_compress_7 : decode cJ10_compress 7 = .ok (.iconst 0, 1) := dk_3 (dk_at dksJ10_compress_0 7 rfl rfl)
theorem dJ10_compress_8 : decode cJ10_compress 8 = .ok (.iload_n 2, 1) := dk_28 (dk_at dksJ10_compress_0 8 rfl rfl)
theorem dJ10_compress_9 : decode cJ10_compress 9 = .ok (.invokestatic 123, 3) := dk_184 0 123 (dk_at dksJ10_compress_0 9 rfl rfl)
theorem dJ10_compress_12 : decode cJ10_compress 12 = .ok (.istore 4, 2) := dk_54 4 (dk_at dksJ10_compress_0 12 rfl rfl)
theorem dJ10_compress_14 : decode cJ10_compress 14 = .ok (.iload 4, 2) := dk_21 4 (dk_at dksJ10_compress_0 14 rfl rfl)
theorem dJ10_compress_16 : decode cJ10_compress 16 = .ok (.iload_n 2, 1) := dk_28 (dk_at dksJ10_compress_0 16 rfl rfl)
theorem dJ10_compress_17 : decode cJ10_compress 17 = .ok (.if_icmp .eq 47, 3) := dk_159 0 47 (dk_at dksJ10_compress_0 17 rfl rfl)
theorem dJ10_compress_20 : decode cJ10_compress 20 = .ok (.aload_n 0, 1) := dk_42 (dk_at dksJ10_compress_0 20 rfl rfl)
theorem dJ10_compress_21 : decode cJ10_compress 21 = .ok (.iload_n 1, 1) := dk_27 (dk_at dksJ10_compress_0 21 rfl rfl)
theorem dJ10_compress_22 : decode cJ10_compress 22 = .ok (.iconst 1, 1) := dk_4 (dk_at dksJ10_compress_0 22 rfl rfl)
theorem dJ10_compress_23 : decode cJ10_compress 23 = .ok (.ishl, 1) := dk_120 (dk_at dksJ10_compress_0 23 rfl rfl)
theorem dJ10_compress_24 : decode cJ10_compress 24 = .ok (.iload_n 1, 1) := dk_27 (dk_at dksJ10_compress_1 0 rfl rfl)
theorem dJ10_compress_25 : decode cJ10_compress 25 = .ok (.iload_n 2, 1) := dk_28 (dk_at dksJ10_compress_1 1 rfl rfl)
theorem dJ10_compress_26 : decode cJ10_compress 26 = .ok (.iadd, 1) := dk_96 (dk_at dksJ10_compress_1 2 rfl rfl)
theorem dJ10_compress_27 : decode cJ10_compress 27 = .ok (.invokestatic 11, 3) := dk_184 0 11 (dk_at dksJ10_compress_1 3 rfl rfl)
theorem dJ10_compress_30 : decode cJ10_compress 30 = .ok (.invokestatic 126, 3) := dk_184 0 126 (dk_at dksJ10_compress_1 6 rfl rfl)
theorem dJ10_compress_33 : decode cJ10_compress 33 = .ok (.astore 5, 2) := dk_58 5 (dk_at dksJ10_compress_1 9 rfl rfl)
theorem dJ10_compress_35 : decode cJ10_compress 35 = .ok (.aload 5, 2) := dk_25 5 (dk_at dksJ10_compress_1 11 rfl rfl)
theorem dJ10_compress_37 : decode cJ10_compress 37 = .ok (.iload 4, 2) := dk_21 4 (dk_at dksJ10_compress_1 13 rfl rfl)
theorem dJ10_compress_39 : decode cJ10_compress 39 = .ok (.invokestatic 71, 3) := dk_184 0 71 (dk_at dksJ10_compress_1 15 rfl rfl)
theorem dJ10_compress_42 : decode cJ10_compress 42 = .ok (.sipush 255, 3) := dk_17 0 255 (dk_at dksJ10_compress_1 18 rfl rfl)
theorem dJ10_compress_45 : decode cJ10_compress 45 = .ok (.if_icmp .gt 16, 3) := dk_163 0 16 (dk_at dksJ10_compress_1 21 rfl rfl)
theorem dJ10_compress_48 : decode cJ10_compress 48 = .ok (.aload 5, 2) := dk_25 5 (dk_at dksJ10_compress_2 0 rfl rfl)
theorem dJ10_compress_50 : decode cJ10_compress 50 = .ok (.iconst 0, 1) := dk_3 (dk_at dksJ10_compress_2 2 rfl rfl)
theorem dJ10_compress_51 : decode cJ10_compress 51 = .ok (.aload_n 3, 1) := dk_45 (dk_at dksJ10_compress_2 3 rfl rfl)
theorem dJ10_compress_52 : decode cJ10_compress 52 = .ok (.iconst 0, 1) := dk_3 (dk_at dksJ10_compress_2 4 rfl rfl)
theorem dJ10_compress_53 : decode cJ10_compress 53 = .ok (.iload_n 2, 1) := dk_28 (dk_at dksJ10_compress_2 5 rfl rfl)
theorem dJ10_compress_54 : decode cJ10_compress 54 = .ok (.invokestatic 123, 3) := dk_184 0 123 (dk_at dksJ10_compress_2 6 rfl rfl)
theorem dJ10_compress_57 : decode cJ10_compress 57 = .ok (.iload_n 2, 1) := dk_28 (dk_at dksJ10_compress_2 9 rfl rfl)
theorem dJ10_compress_58 : decode cJ10_compress 58 = .ok (.if_icmp .eq 6, 3) := dk_159 0 6 (dk_at dksJ10_compress_2 10 rfl rfl)
theorem dJ10_compress_61 : decode cJ10_compress 61 = .ok (.aload 5, 2) := dk_25 5 (dk_at dksJ10_compress_2 13 rfl rfl)
theorem dJ10_compress_63 : decode cJ10_compress 63 = .ok (.areturn, 1) := dk_176 (dk_at dksJ10_compress_2 15 rfl rfl)
theorem dJ10_compress_64 : decode cJ10_compress 64 = .ok (.aload_n 3, 1) := dk_45 (dk_at dksJ10_compress_2 16 rfl rfl)
theorem dJ10_compress_65 : decode cJ10_compress 65 = .ok (.areturn, 1) := dk_176 (dk_at dksJ10_compress_2 17 rfl rfl)
abbrev cJ10_compress_2 : ByteArray := prog_36_method_22_code
def yJ10_compress_2 : MethodName := ⟨RJ10, "compress", "([BI[BII)I"⟩
def dkwJ10_compress_2_2 : List UInt8 := [132, 5, 1, 167, 255, 216, 21, 4, 172]
abbrev dktJ10_compress_2_2 : List UInt8 := dkwJ10_compress_2_2 ++ []
def dkwJ10_compress_2_1 : List UInt8 := [21, 6, 17, 0, 255, 164, 0, 6, 21, 5, 172, 44, 29, 21, 6, 145, 84, 132, 1, 1, 132, 3, 1]
abbrev dktJ10_compress_2_1 : List UInt8 := dkwJ10_compress_2_1 ++ dktJ10_compress_2_2
def dkwJ10_compress_2_0 : List UInt8 := [27, 21, 4, 42, 184, 0, 173, 3, 54, 5, 21, 5, 21, 4, 162, 0, 39, 42, 27, 184, 0, 71, 54, 6]
abbrev dktJ10_compress_2_0 : List UInt8 := dkwJ10_compress_2_0 ++ dktJ10_compress_2_1
theorem dksJ10_compress_2_0 : cJ10_compress_2.data.toList.drop 0 = dktJ10_compress_2_0 := by decide +kernel
theorem dksJ10_compress_2_1 : cJ10_compress_2.data.toList.drop 24 = dktJ10_compress_2_1 := dk_seg dksJ10_compress_2_0 24 rfl rfl
theorem dksJ10_compress_2_2 : cJ10_compress_2.data.toList.drop 47 = dktJ10_compress_2_2 := dk_seg dksJ10_compress_2_1 23 rfl rfl
theorem dJ10_compress_2_0 : decode cJ10_compress_2 0 = .ok (.iload_n 1, 1) := dk_27 (dk_at dksJ10_compress_2_0 0 rfl rfl)
theorem dJ10_compress_2_1 : decode cJ10_compress_2 1 = .ok (.iload 4, 2) := dk_21 4 (dk_at dksJ10_compress_2_0 1 rfl rfl)
theorem dJ10_compress_2_3 : decode cJ10_compress_2 3 = .ok (.aload_n 0, 1) := dk_42 (dk_at dksJ10_compress_2_0 3 rfl rfl)
theorem dJ10_compress_2_4 : decode cJ10_compress_2 4 = .ok (.invokestatic 173, 3) := dk_184 0 173 (dk_at dksJ10_compress_2_0 4 rfl rfl)
theorem dJ10_compress_2_7 : decode cJ10_compress_2 7 = .ok (.iconst 0, 1) := dk_3 (dk_at dksJ10_compress_2_0 7 rfl rfl)
theorem dJ10_compress_2_8 : decode cJ10_compress_2 8 = .ok (.istore 5, 2) := dk_54 5 (dk_at dksJ10_compress_2_0 8 rfl rfl)
theorem dJ10_compress_2_10 : decode cJ10_compress_2 10 = .ok (.iload 5, 2) := dk_21 5 (dk_at dksJ10_compress_2_0 10 rfl rfl)
theorem dJ10_compress_2_12 : decode cJ10_compress_2 12 = .ok (.iload 4, 2) := dk_21 4 (dk_at dksJ10_compress_2_0 12 rfl rfl)
theorem dJ10_compress_2_14 : decode cJ10_compress_2 14 = .ok (.if_icmp .ge 39, 3) := dk_162 0 39 (dk_at dksJ10_compress_2_0 14 rfl rfl)
theorem dJ10_compress_2_17 : decode cJ10_compress_2 17 = .ok (.aload_n 0, 1) := dk_42 (dk_at dksJ10_compress_2_0 17 rfl rfl)
theorem dJ10_compress_2_18 : decode cJ10_compress_2 18 = .ok (.iload_n 1, 1) := dk_27 (dk_at dksJ10_compress_2_0 18 rfl rfl)
theorem dJ10_compress_2_19 : decode cJ10_compress_2 19 = .ok (.invokestatic 71, 3) := dk_184 0 71 (dk_at dksJ10_compress_2_0 19 rfl rfl)
theorem dJ10_compress_2_22 : decode cJ10_compress_2 22 = .ok (.istore 6, 2) := dk_54 6 (dk_at dksJ10_compress_2_0 22 rfl rfl)
theorem dJ10_compress_2_24 : decode cJ10_compress_2 24 = .ok (.iload 6, 2) := dk_21 6 (dk_at dksJ10_compress_2_1 0 rfl rfl)
theorem dJ10_compress_2_26 : decode cJ10_compress_2 26 = .ok (.sipush 255, 3) := dk_17 0 255 (dk_at dksJ10_compress_2_1 2 rfl rfl)
theorem dJ10_compress_2_29 : decode cJ10_compress_2 29 = .ok (.if_icmp .le 6, 3) := dk_164 0 6 (dk_at dksJ10_compress_2_1 5 rfl rfl)
theorem dJ10_compress_2_32 : decode cJ10_compress_2 32 = .ok (.iload 5, 2) := dk_21 5 (dk_at dksJ10_compress_2_1 8 rfl rfl)
theorem dJ10_compress_2_34 : decode cJ10_compress_2 34 = .ok (.ireturn, 1) := dk_172 (dk_at dksJ10_compress_2_1 10 rfl rfl)
theorem dJ10_compress_2_35 : decode cJ10_compress_2 35 = .ok (.aload_n 2, 1) := dk_44 (dk_at dksJ10_compress_2_1 11 rfl rfl)
theorem dJ10_compress_2_36 : decode cJ10_compress_2 36 = .ok (.iload_n 3, 1) := dk_29 (dk_at dksJ10_compress_2_1 12 rfl rfl)
theorem dJ10_compress_2_37 : decode cJ10_compress_2 37 = .ok (.iload 6, 2) := dk_21 6 (dk_at dksJ10_compress_2_1 13 rfl rfl)
theorem dJ10_compress_2_39 : decode cJ10_compress_2 39 = .ok (.i2b, 1) := dk_145 (dk_at dksJ10_compress_2_1 15 rfl rfl)
theorem dJ10_compress_2_40 : decode cJ10_compress_2 40 = .ok (.bastore, 1) := dk_84 (dk_at dksJ10_compress_2_1 16 rfl rfl)
theorem dJ10_compress_2_41 : decode cJ10_compress_2 41 = .ok (.iinc 1 1, 3) := dk_132 1 1 (dk_at dksJ10_compress_2_1 17 rfl rfl)
theorem dJ10_compress_2_44 : decode cJ10_compress_2 44 = .ok (.iinc 3 1, 3) := dk_132 3 1 (dk_at dksJ10_compress_2_1 20 rfl rfl)
theorem dJ10_compress_2_47 : decode cJ10_compress_2 47 = .ok (.iinc 5 1, 3) := dk_132 5 1 (dk_at dksJ10_compress_2_2 0 rfl rfl)
theorem dJ10_compress_2_50 : decode cJ10_compress_2 50 = .ok (.goto (-40), 3) := dk_167 255 216 (dk_at dksJ10_compress_2_2 3 rfl rfl)
theorem dJ10_compress_2_53 : decode cJ10_compress_2 53 = .ok (.iload 4, 2) := dk_21 4 (dk_at dksJ10_compress_2_2 6 rfl rfl)
theorem dJ10_compress_2_55 : decode cJ10_compress_2 55 = .ok (.ireturn, 1) := dk_172 (dk_at dksJ10_compress_2_2 8 rfl rfl)
abbrev cJ10_getChar : ByteArray := prog_36_method_5_code
def yJ10_getChar : MethodName := ⟨RJ10, "getChar", "([BI)C"⟩
def dkwJ10_getChar_2 : List UInt8 := [51, 17, 0, 255, 126, 178, 0, 63, 120, 128, 146, 172]
abbrev dktJ10_getChar_2 : List UInt8 := dkwJ10_getChar_2 ++ []
def dkwJ10_getChar_1 : List UInt8 := [183, 0, 56, 191, 27, 4, 120, 60, 42, 27, 132, 1, 1, 51, 17, 0, 255, 126, 178, 0, 59, 120, 42, 27]
abbrev dktJ10_getChar_1 : List UInt8 := dkwJ10_getChar_1 ++ dktJ10_getChar_2
def dkwJ10_getChar_0 : List UInt8 := [178, 0, 44, 154, 0, 25, 27, 155, 0, 11, 27, 42, 184, 0, 48, 161, 0, 13, 187, 0, 52, 89, 18, 54]
abbrev dktJ10_getChar_0 : List UInt8 := dkwJ10_getChar_0 ++ dktJ10_getChar_1
theorem dksJ10_getChar_0 : cJ10_getChar.data.toList.drop 0 = dktJ10_getChar_0 := by decide +kernel
theorem dksJ10_getChar_1 : cJ10_getChar.data.toList.drop 24 = dktJ10_getChar_1 := dk_seg dksJ10_getChar_0 24 rfl rfl
theorem dksJ10_getChar_2 : cJ10_getChar.data.toList.drop 48 = dktJ10_getChar_2 := dk_seg dksJ10_getChar_1 24 rfl rfl
theorem dJ10_getChar_0 : decode cJ10_getChar 0 = .ok (.getstatic 44, 3) := dk_178 0 44 (dk_at dksJ10_getChar_0 0 rfl rfl)
theorem dJ10_getChar_3 : decode cJ10_getChar 3 = .ok (.ifCond .ne 25, 3) := dk_154 0 25 (dk_at dksJ10_getChar_0 3 rfl rfl)
theorem dJ10_getChar_6 : decode cJ10_getChar 6 = .ok (.iload_n 1, 1) := dk_27 (dk_at dksJ10_getChar_0 6 rfl rfl)
theorem dJ10_getChar_7 : decode cJ10_getChar 7 = .ok (.ifCond .lt 11, 3) := dk_155 0 11 (dk_at dksJ10_getChar_0 7 rfl rfl)
theorem dJ10_getChar_10 : decode cJ10_getChar 10 = .ok (.iload_n 1, 1) := dk_27 (dk_at dksJ10_getChar_0 10 rfl rfl)
theorem dJ10_getChar_11 : decode cJ10_getChar 11 = .ok (.aload_n 0, 1) := dk_42 (dk_at dksJ10_getChar_0 11 rfl rfl)
theorem dJ10_getChar_12 : decode cJ10_getChar 12 = .ok (.invokestatic 48, 3) := dk_184 0 48 (dk_at dksJ10_getChar_0 12 rfl rfl)
theorem dJ10_getChar_15 : decode cJ10_getChar 15 = .ok (.if_icmp .lt 13, 3) := dk_161 0 13 (dk_at dksJ10_getChar_0 15 rfl rfl)
theorem dJ10_getChar_18 : decode cJ10_getChar 18 = .ok (.new 52, 3) := dk_187 0 52 (dk_at dksJ10_getChar_0 18 rfl rfl)
theorem dJ10_getChar_21 : decode cJ10_getChar 21 = .ok (.dup, 1) := dk_89 (dk_at dksJ10_getChar_0 21 rfl rfl)
theorem dJ10_getChar_22 : decode cJ10_getChar 22 = .ok (.ldc 54, 2) := dk_18 54 (dk_at dksJ10_getChar_0 22 rfl rfl)
theorem dJ10_getChar_24 : decode cJ10_getChar 24 = .ok (.invokespecial 56, 3) := dk_183 0 56 (dk_at dksJ10_getChar_1 0 rfl rfl)
theorem dJ10_getChar_27 : decode cJ10_getChar 27 = .ok (.athrow, 1) := dk_191 (dk_at dksJ10_getChar_1 3 rfl rfl)
theorem dJ10_getChar_28 : decode cJ10_getChar 28 = .ok (.iload_n 1, 1) := dk_27 (dk_at dksJ10_getChar_1 4 rfl rfl)
theorem dJ10_getChar_29 : decode cJ10_getChar 29 = .ok (.iconst 1, 1) := dk_4 (dk_at dksJ10_getChar_1 5 rfl rfl)
theorem dJ10_getChar_30 : decode cJ10_getChar 30 = .ok (.ishl, 1) := dk_120 (dk_at dksJ10_getChar_1 6 rfl rfl)
theorem dJ10_getChar_31 : decode cJ10_getChar 31 = .ok (.istore_n 1, 1) := dk_60 (dk_at dksJ10_getChar_1 7 rfl rfl)
theorem dJ10_getChar_32 : decode cJ10_getChar 32 = .ok (.aload_n 0, 1) := dk_42 (dk_at dksJ10_getChar_1 8 rfl rfl)
theorem dJ10_getChar_33 : decode cJ10_getChar 33 = .ok (.iload_n 1, 1) := dk_27 (dk_at dksJ10_getChar_1 9 rfl rfl)
theorem dJ10_getChar_34 : decode cJ10_getChar 34 = .ok (.iinc 1 1, 3) := dk_132 1 1 (dk_at dksJ10_getChar_1 10 rfl rfl)
theorem dJ10_getChar_37 : decode cJ10_getChar 37 = .ok (.baload, 1) := dk_51 (dk_at dksJ10_getChar_1 13 rfl rfl)
theorem dJ10_getChar_38 : decode cJ10_getChar 38 = .ok (.sipush 255, 3) := dk_17 0 255 (dk_at dksJ10_getChar_1 14 rfl rfl)
theorem dJ10_getChar_41 : decode cJ10_getChar 41 = .ok (.iand, 1) := dk_126 (dk_at dksJ10_getChar_1 17 rfl rfl)
theorem dJ10_getChar_42 : decode cJ10_getChar 42 = .ok (.getstatic 59, 3) := dk_178 0 59 (dk_at dksJ10_getChar_1 18 rfl rfl)
theorem dJ10_getChar_45 : decode cJ10_getChar 45 = .ok (.ishl, 1) := dk_120 (dk_at dksJ10_getChar_1 21 rfl rfl)
theorem dJ10_getChar_46 : decode cJ10_getChar 46 = .ok (.aload_n 0, 1) := dk_42 (dk_at dksJ10_getChar_1 22 rfl rfl)
theorem dJ10_getChar_47 : decode cJ10_getChar 47 = .ok (.iload_n 1, 1) := dk_27 (dk_at dksJ10_getChar_1 23 rfl rfl)
theorem dJ10_getChar_48 : decode cJ10_getChar 48 = .ok (.baload, 1) := dk_51 (dk_at dksJ10_getChar_2 0 rfl rfl)
theorem dJ10_getChar_49 : decode cJ10_getChar 49 = .ok (.sipush 255, 3) := dk_17 0 255 (dk_at dksJ10_getChar_2 1 rfl rfl)
theorem dJ10_getChar_52 : decode cJ10_getChar 52 = .ok (.iand, 1) := dk_126 (dk_at dksJ10_getChar_2 4 rfl rfl)
theorem dJ10_getChar_53 : decode cJ10_getChar 53 = .ok (.getstatic 63, 3) := dk_178 0 63 (dk_at dksJ10_getChar_2 5 rfl rfl)
theorem dJ10_getChar_56 : decode cJ10_getChar 56 = .ok (.ishl, 1) := dk_120 (dk_at dksJ10_getChar_2 8 rfl rfl)
theorem dJ10_getChar_57 : decode cJ10_getChar 57 = .ok (.ior, 1) := dk_128 (dk_at dksJ10_getChar_2 9 rfl rfl)
theorem dJ10_getChar_58 : decode cJ10_getChar 58 = .ok (.i2c, 1) := dk_146 (dk_at dksJ10_getChar_2 10 rfl rfl)
theorem dJ10_getChar_59 : decode cJ10_getChar 59 = .ok (.ireturn, 1) := dk_172 (dk_at dksJ10_getChar_2 11 rfl rfl)
abbrev cJ10_coderFromArrayLen : ByteArray := prog_36_method_15_code
def yJ10_coderFromArrayLen : MethodName := ⟨RJ10, "coderFromArrayLen", "([BI)B"⟩
def dkwJ10_coderFromArrayLen_0 : List UInt8 := [27, 42, 190, 100, 16, 31, 124, 145, 172]
abbrev dktJ10_coderFromArrayLen_0 : List UInt8 := dkwJ10_coderFromArrayLen_0 ++ []
theorem dksJ10_coderFromArrayLen_0 : cJ10_coderFromArrayLen.data.toList.drop 0 = dktJ10_coderFromArrayLen_0 := by decide +kernel
theorem dJ10_coderFromArrayLen_0 : decode cJ10_coderFromArrayLen 0 = .ok (.iload_n 1, 1) := dk_27 (dk_at dksJ10_coderFromArrayLen_0 0 rfl rfl)
theorem dJ10_coderFromArrayLen_1 : decode cJ10_coderFromArrayLen 1 = .ok (.aload_n 0, 1) := dk_42 (dk_at dksJ10_coderFromArrayLen_0 1 rfl rfl)
theorem dJ10_coderFromArrayLen_2 : decode cJ10_coderFromArrayLen 2 = .ok (.arraylength, 1) := dk_190 (dk_at dksJ10_coderFromArrayLen_0 2 rfl rfl)
theorem dJ10_coderFromArrayLen_3 : decode cJ10_coderFromArrayLen 3 = .ok (.isub, 1) := dk_100 (dk_at dksJ10_coderFromArrayLen_0 3 rfl rfl)
theorem dJ10_coderFromArrayLen_4 : decode cJ10_coderFromArrayLen 4 = .ok (.bipush 31, 2) := dk_16 31 (dk_at dksJ10_coderFromArrayLen_0 4 rfl rfl)
theorem dJ10_coderFromArrayLen_6 : decode cJ10_coderFromArrayLen 6 = .ok (.iushr, 1) := dk_124 (dk_at dksJ10_coderFromArrayLen_0 6 rfl rfl)
theorem dJ10_coderFromArrayLen_7 : decode cJ10_coderFromArrayLen 7 = .ok (.i2b, 1) := dk_145 (dk_at dksJ10_coderFromArrayLen_0 7 rfl rfl)
theorem dJ10_coderFromArrayLen_8 : decode cJ10_coderFromArrayLen 8 = .ok (.ireturn, 1) := dk_172 (dk_at dksJ10_coderFromArrayLen_0 8 rfl rfl)
abbrev cJ10_putCharSB : ByteArray := prog_36_method_71_code
def yJ10_putCharSB : MethodName := ⟨RJ10, "putCharSB", "([BII)V"⟩
def dkwJ10_putCharSB_0 : List UInt8 := [27, 42, 184, 0, 67, 42, 27, 28, 184, 0, 111, 177]
abbrev dktJ10_putCharSB_0 : List UInt8 := dkwJ10_putCharSB_0 ++ []
theorem dksJ10_putCharSB_0 : cJ10_putCharSB.data.toList.drop 0 = dktJ10_putCharSB_0 := by decide +kernel
theorem dJ10_putCharSB_0 : decode cJ10_putCharSB 0 = .ok (.iload_n 1, 1) := dk_27 (dk_at dksJ10_putCharSB_0 0 rfl rfl)
theorem dJ10_putCharSB_1 : decode cJ10_putCharSB 1 = .ok (.aload_n 0, 1) := dk_42 (dk_at dksJ10_putCharSB_0 1 rfl rfl)
theorem dJ10_putCharSB_2 : decode cJ10_putCharSB 2 = .ok (.invokestatic 67, 3) := dk_184 0 67 (dk_at dksJ10_putCharSB_0 2 rfl rfl)
theorem dJ10_putCharSB_5 : decode cJ10_putCharSB 5 = .ok (.aload_n 0, 1) := dk_42 (dk_at dksJ10_putCharSB_0 5 rfl rfl)
theorem dJ10_putCharSB_6 : decode cJ10_putCharSB 6 = .ok (.iload_n 1, 1) := dk_27 (dk_at dksJ10_putCharSB_0 6 rfl rfl)
theorem dJ10_putCharSB_7 : decode cJ10_putCharSB 7 = .ok (.iload_n 2, 1) := dk_28 (dk_at dksJ10_putCharSB_0 7 rfl rfl)
theorem dJ10_putCharSB_8 : decode cJ10_putCharSB 8 = .ok (.invokestatic 111, 3) := dk_184 0 111 (dk_at dksJ10_putCharSB_0 8 rfl rfl)
theorem dJ10_putCharSB_11 : decode cJ10_putCharSB 11 = .ok (.return_, 1) := dk_177 (dk_at dksJ10_putCharSB_0 11 rfl rfl)
abbrev cJ10_checkIndex : ByteArray := prog_36_method_91_code
def yJ10_checkIndex : MethodName := ⟨RJ10, "checkIndex", "(I[B)V"⟩
def dkwJ10_checkIndex_0 : List UInt8 := [26, 43, 184, 0, 48, 184, 1, 158, 177]
abbrev dktJ10_checkIndex_0 : List UInt8 := dkwJ10_checkIndex_0 ++ []
theorem dksJ10_checkIndex_0 : cJ10_checkIndex.data.toList.drop 0 = dktJ10_checkIndex_0 := by decide +kernel
theorem dJ10_checkIndex_0 : decode cJ10_checkIndex 0 = .ok (.iload_n 0, 1) := dk_26 (dk_at dksJ10_checkIndex_0 0 rfl rfl)
theorem dJ10_checkIndex_1 : decode cJ10_checkIndex 1 = .ok (.aload_n 1, 1) := dk_43 (dk_at dksJ10_checkIndex_0 1 rfl rfl)
theorem dJ10_checkIndex_2 : decode cJ10_checkIndex 2 = .ok (.invokestatic 48, 3) := dk_184 0 48 (dk_at dksJ10_checkIndex_0 2 rfl rfl)
theorem dJ10_checkIndex_5 : decode cJ10_checkIndex 5 = .ok (.invokestatic 414, 3) := dk_184 1 158 (dk_at dksJ10_checkIndex_0 5 rfl rfl)
theorem dJ10_checkIndex_8 : decode cJ10_checkIndex 8 = .ok (.return_, 1) := dk_177 (dk_at dksJ10_checkIndex_0 8 rfl rfl)
abbrev cJ10_fillNull : ByteArray := prog_36_method_70_code
def yJ10_fillNull : MethodName := ⟨RJ10, "fillNull", "([BII)V"⟩
def dkwJ10_fillNull_0 : List UInt8 := [42, 27, 4, 120, 28, 4, 120, 3, 184, 1, 124, 177]
abbrev dktJ10_fillNull_0 : List UInt8 := dkwJ10_fillNull_0 ++ []
theorem dksJ10_fillNull_0 : cJ10_fillNull.data.toList.drop 0 = dktJ10_fillNull_0 := by decide +kernel
theorem dJ10_fillNull_0 : decode cJ10_fillNull 0 = .ok (.aload_n 0, 1) := dk_42 (dk_at dksJ10_fillNull_0 0 rfl rfl)
theorem dJ10_fillNull_1 : decode cJ10_fillNull 1 = .ok (.iload_n 1, 1) := dk_27 (dk_at dksJ10_fillNull_0 1 rfl rfl)
theorem dJ10_fillNull_2 : decode cJ10_fillNull 2 = .ok (.iconst 1, 1) := dk_4 (dk_at dksJ10_fillNull_0 2 rfl rfl)
theorem dJ10_fillNull_3 : decode cJ10_fillNull 3 = .ok (.ishl, 1) := dk_120 (dk_at dksJ10_fillNull_0 3 rfl rfl)
theorem dJ10_fillNull_4 : decode cJ10_fillNull 4 = .ok (.iload_n 2, 1) := dk_28 (dk_at dksJ10_fillNull_0 4 rfl rfl)
theorem dJ10_fillNull_5 : decode cJ10_fillNull 5 = .ok (.iconst 1, 1) := dk_4 (dk_at dksJ10_fillNull_0 5 rfl rfl)
theorem dJ10_fillNull_6 : decode cJ10_fillNull 6 = .ok (.ishl, 1) := dk_120 (dk_at dksJ10_fillNull_0 6 rfl rfl)
theorem dJ10_fillNull_7 : decode cJ10_fillNull 7 = .ok (.iconst 0, 1) := dk_3 (dk_at dksJ10_fillNull_0 7 rfl rfl)
theorem dJ10_fillNull_8 : decode cJ10_fillNull 8 = .ok (.invokestatic 380, 3) := dk_184 1 124 (dk_at dksJ10_fillNull_0 8 rfl rfl)
theorem dJ10_fillNull_11 : decode cJ10_fillNull 11 = .ok (.return_, 1) := dk_177 (dk_at dksJ10_fillNull_0 11 rfl rfl)
theorem q145 : (Jvm.Cond.initialized "java/lang/StringUTF16") ∈ lw_all := lw_g (lw_at lw_m1 14 rfl) rfl
theorem q357 : (Jvm.Cond.static ({ cls := "java/lang/StringUTF16", name := "newBytesFor", desc := "(I)[B" } : Jvm.MethodName)) ∈ lw_all := lw_g (lw_at lw_m1 226 rfl) rfl
theorem q358 : (Jvm.Cond.code ({ cls := "java/lang/StringUTF16", name := "newBytesFor", desc := "(I)[B" } : Jvm.MethodName) prog_36_method_2_code (1 : Nat) (Option.some (Jvm.ClassFile.FieldType.array Jvm.ClassFile.FieldType.byte))) ∈ lw_all := lw_g (lw_at lw_m1 227 rfl) rfl
theorem q359 : (Jvm.Cond.methodLink "java/lang/StringUTF16" (11 : Nat) ({ cls := "java/lang/StringUTF16", name := "newBytesLength", desc := "(I)I" } : Jvm.MethodName)) ∈ lw_all := lw_g (lw_at lw_m1 228 rfl) rfl
theorem q360 : (Jvm.Cond.static ({ cls := "java/lang/StringUTF16", name := "newBytesLength", desc := "(I)I" } : Jvm.MethodName)) ∈ lw_all := lw_g (lw_at lw_m1 229 rfl) rfl
theorem q361 : (Jvm.Cond.code ({ cls := "java/lang/StringUTF16", name := "newBytesLength", desc := "(I)I" } : Jvm.MethodName) prog_36_method_3_code (1 : Nat) (Option.some Jvm.ClassFile.FieldType.int)) ∈ lw_all := lw_g (lw_at lw_m1 230 rfl) rfl
theorem q362 : (Jvm.Cond.constant "java/lang/StringUTF16" (20 : Nat) (1073741823 : Int32)) ∈ lw_all := lw_g (lw_at lw_m1 231 rfl) rfl
theorem q1458 : (Jvm.Cond.static ({ cls := "java/lang/StringUTF16", name := "putCharsAt", desc := "([BICCCC)I" } : Jvm.MethodName)) ∈ lw_all := lw_g (lw_at lw_m6 127 rfl) rfl
theorem q1459 : (Jvm.Cond.code ({ cls := "java/lang/StringUTF16", name := "putCharsAt", desc := "([BICCCC)I" } : Jvm.MethodName) prog_36_method_81_code (7 : Nat) (Option.some Jvm.ClassFile.FieldType.int)) ∈ lw_all := lw_g (lw_at lw_m6 128 rfl) rfl
theorem q1460 : (Jvm.Cond.methodLink "java/lang/StringUTF16" (96 : Nat) ({ cls := "java/lang/StringUTF16", name := "checkBoundsBeginEnd", desc := "(II[B)V" } : Jvm.MethodName)) ∈ lw_all := lw_g (lw_at lw_m6 129 rfl) rfl
theorem q1461 : (Jvm.Cond.static ({ cls := "java/lang/StringUTF16", name := "checkBoundsBeginEnd", desc := "(II[B)V" } : Jvm.MethodName)) ∈ lw_all := lw_g (lw_at lw_m6 130 rfl) rfl
theorem q1462 : (Jvm.Cond.code ({ cls := "java/lang/StringUTF16", name := "checkBoundsBeginEnd", desc := "(II[B)V" } : Jvm.MethodName) prog_36_method_93_code (3 : Nat) (Option.none : Option Jvm.ClassFile.FieldType)) ∈ lw_all := lw_g (lw_at lw_m6 131 rfl) rfl
theorem q1463 : (Jvm.Cond.methodLink "java/lang/StringUTF16" (48 : Nat) ({ cls := "java/lang/StringUTF16", name := "length", desc := "([B)I" } : Jvm.MethodName)) ∈ lw_all := lw_g (lw_at lw_m6 132 rfl) rfl
theorem q1464 : (Jvm.Cond.static ({ cls := "java/lang/StringUTF16", name := "length", desc := "([B)I" } : Jvm.MethodName)) ∈ lw_all := lw_g (lw_at lw_m6 133 rfl) rfl
theorem q1465 : (Jvm.Cond.code ({ cls := "java/lang/StringUTF16", name := "length", desc := "([B)I" } : Jvm.MethodName) prog_36_method_6_code (1 : Nat) (Option.some Jvm.ClassFile.FieldType.int)) ∈ lw_all := lw_g (lw_at lw_m6 134 rfl) rfl
theorem q1466 : (Jvm.Cond.methodLink "java/lang/StringUTF16" (241 : Nat) ({ cls := "java/lang/String", name := "checkBoundsBeginEnd", desc := "(III)V" } : Jvm.MethodName)) ∈ lw_all := lw_g (lw_at lw_m6 135 rfl) rfl
theorem q1474 : (Jvm.Cond.methodLink "java/lang/StringUTF16" (111 : Nat) ({ cls := "java/lang/StringUTF16", name := "putChar", desc := "([BII)V" } : Jvm.MethodName)) ∈ lw_all := lw_g (lw_at lw_m6 143 rfl) rfl
theorem q1475 : (Jvm.Cond.static ({ cls := "java/lang/StringUTF16", name := "putChar", desc := "([BII)V" } : Jvm.MethodName)) ∈ lw_all := lw_g (lw_at lw_m6 144 rfl) rfl
theorem q1476 : (Jvm.Cond.code ({ cls := "java/lang/StringUTF16", name := "putChar", desc := "([BII)V" } : Jvm.MethodName) prog_36_method_4_code (3 : Nat) (Option.none : Option Jvm.ClassFile.FieldType)) ∈ lw_all := lw_g (lw_at lw_m6 145 rfl) rfl
theorem q1477 : (Jvm.Cond.fieldLink "java/lang/StringUTF16" (44 : Nat) "java/lang/StringUTF16" "$assertionsDisabled" "Z") ∈ lw_all := lw_g (lw_at lw_m6 146 rfl) rfl
theorem q1478 : (Jvm.Cond.laysStatic "java/lang/StringUTF16" "$assertionsDisabled" "Z") ∈ lw_tbl := lw_at lw_m6 147 rfl
theorem q1479 : (Jvm.Cond.fieldLink "java/lang/StringUTF16" (59 : Nat) "java/lang/StringUTF16" "HI_BYTE_SHIFT" "I") ∈ lw_all := lw_g (lw_at lw_m6 148 rfl) rfl
theorem q1480 : (Jvm.Cond.laysStatic "java/lang/StringUTF16" "HI_BYTE_SHIFT" "I") ∈ lw_tbl := lw_at lw_m6 149 rfl
theorem q1481 : (Jvm.Cond.fieldLink "java/lang/StringUTF16" (63 : Nat) "java/lang/StringUTF16" "LO_BYTE_SHIFT" "I") ∈ lw_all := lw_g (lw_at lw_m6 150 rfl) rfl
theorem q1482 : (Jvm.Cond.laysStatic "java/lang/StringUTF16" "LO_BYTE_SHIFT" "I") ∈ lw_tbl := lw_at lw_m6 151 rfl
theorem q1509 : (Jvm.Cond.static ({ cls := "java/lang/StringUTF16", name := "inflate", desc := "([BI[BII)V" } : Jvm.MethodName)) ∈ lw_all := lw_g (lw_at lw_m6 178 rfl) rfl
theorem q1510 : (Jvm.Cond.code ({ cls := "java/lang/StringUTF16", name := "inflate", desc := "([BI[BII)V" } : Jvm.MethodName) prog_36_method_86_code (6 : Nat) (Option.none : Option Jvm.ClassFile.FieldType)) ∈ lw_all := lw_g (lw_at lw_m6 179 rfl) rfl
theorem q1511 : (Jvm.Cond.methodLink "java/lang/StringUTF16" (173 : Nat) ({ cls := "java/lang/StringUTF16", name := "checkBoundsOffCount", desc := "(II[B)V" } : Jvm.MethodName)) ∈ lw_all := lw_g (lw_at lw_m6 180 rfl) rfl
theorem q1512 : (Jvm.Cond.static ({ cls := "java/lang/StringUTF16", name := "checkBoundsOffCount", desc := "(II[B)V" } : Jvm.MethodName)) ∈ lw_all := lw_g (lw_at lw_m6 181 rfl) rfl
theorem q1513 : (Jvm.Cond.code ({ cls := "java/lang/StringUTF16", name := "checkBoundsOffCount", desc := "(II[B)V" } : Jvm.MethodName) prog_36_method_94_code (3 : Nat) (Option.none : Option Jvm.ClassFile.FieldType)) ∈ lw_all := lw_g (lw_at lw_m6 182 rfl) rfl
theorem q1514 : (Jvm.Cond.methodLink "java/lang/StringUTF16" (419 : Nat) ({ cls := "java/lang/String", name := "checkBoundsOffCount", desc := "(III)I" } : Jvm.MethodName)) ∈ lw_all := lw_g (lw_at lw_m6 183 rfl) rfl
theorem q1564 : (Jvm.Cond.static ({ cls := "java/lang/StringUTF16", name := "compress", desc := "([BII)[B" } : Jvm.MethodName)) ∈ lw_all := lw_g (lw_at lw_m6 233 rfl) rfl
theorem q1565 : (Jvm.Cond.code ({ cls := "java/lang/StringUTF16", name := "compress", desc := "([BII)[B" } : Jvm.MethodName) prog_36_method_17_code (6 : Nat) (Option.some (Jvm.ClassFile.FieldType.array Jvm.ClassFile.FieldType.byte))) ∈ lw_all := lw_g (lw_at lw_m6 234 rfl) rfl
theorem q1566 : (Jvm.Cond.methodLink "java/lang/StringUTF16" (123 : Nat) ({ cls := "java/lang/StringUTF16", name := "compress", desc := "([BI[BII)I" } : Jvm.MethodName)) ∈ lw_all := lw_g (lw_at lw_m6 235 rfl) rfl
theorem q1567 : (Jvm.Cond.static ({ cls := "java/lang/StringUTF16", name := "compress", desc := "([BI[BII)I" } : Jvm.MethodName)) ∈ lw_all := lw_g (lw_at lw_m6 236 rfl) rfl
theorem q1568 : (Jvm.Cond.code ({ cls := "java/lang/StringUTF16", name := "compress", desc := "([BI[BII)I" } : Jvm.MethodName) prog_36_method_22_code (7 : Nat) (Option.some Jvm.ClassFile.FieldType.int)) ∈ lw_all := lw_g (lw_at lw_m6 237 rfl) rfl
theorem q1569 : (Jvm.Cond.methodLink "java/lang/StringUTF16" (71 : Nat) ({ cls := "java/lang/StringUTF16", name := "getChar", desc := "([BI)C" } : Jvm.MethodName)) ∈ lw_all := lw_g (lw_at lw_m6 238 rfl) rfl
theorem q1570 : (Jvm.Cond.static ({ cls := "java/lang/StringUTF16", name := "getChar", desc := "([BI)C" } : Jvm.MethodName)) ∈ lw_all := lw_g (lw_at lw_m6 239 rfl) rfl
theorem q1571 : (Jvm.Cond.code ({ cls := "java/lang/StringUTF16", name := "getChar", desc := "([BI)C" } : Jvm.MethodName) prog_36_method_5_code (2 : Nat) (Option.some Jvm.ClassFile.FieldType.char)) ∈ lw_all := lw_g (lw_at lw_m7 0 rfl) rfl
theorem q1572 : (Jvm.Cond.methodLink "java/lang/StringUTF16" (126 : Nat) ({ cls := "java/util/Arrays", name := "copyOfRange", desc := "([BII)[B" } : Jvm.MethodName)) ∈ lw_all := lw_g (lw_at lw_m7 1 rfl) rfl
theorem q1574 : (Jvm.Cond.static ({ cls := "java/lang/StringUTF16", name := "coderFromArrayLen", desc := "([BI)B" } : Jvm.MethodName)) ∈ lw_all := lw_g (lw_at lw_m7 3 rfl) rfl
theorem q1575 : (Jvm.Cond.code ({ cls := "java/lang/StringUTF16", name := "coderFromArrayLen", desc := "([BI)B" } : Jvm.MethodName) prog_36_method_15_code (2 : Nat) (Option.some Jvm.ClassFile.FieldType.byte)) ∈ lw_all := lw_g (lw_at lw_m7 4 rfl) rfl
theorem q1872 : (Jvm.Cond.static ({ cls := "java/lang/StringUTF16", name := "putCharSB", desc := "([BII)V" } : Jvm.MethodName)) ∈ lw_all := lw_g (lw_at lw_m8 61 rfl) rfl
theorem q1873 : (Jvm.Cond.code ({ cls := "java/lang/StringUTF16", name := "putCharSB", desc := "([BII)V" } : Jvm.MethodName) prog_36_method_71_code (3 : Nat) (Option.none : Option Jvm.ClassFile.FieldType)) ∈ lw_all := lw_g (lw_at lw_m8 62 rfl) rfl
theorem q1874 : (Jvm.Cond.methodLink "java/lang/StringUTF16" (67 : Nat) ({ cls := "java/lang/StringUTF16", name := "checkIndex", desc := "(I[B)V" } : Jvm.MethodName)) ∈ lw_all := lw_g (lw_at lw_m8 63 rfl) rfl
theorem q1875 : (Jvm.Cond.static ({ cls := "java/lang/StringUTF16", name := "checkIndex", desc := "(I[B)V" } : Jvm.MethodName)) ∈ lw_all := lw_g (lw_at lw_m8 64 rfl) rfl
theorem q1876 : (Jvm.Cond.code ({ cls := "java/lang/StringUTF16", name := "checkIndex", desc := "(I[B)V" } : Jvm.MethodName) prog_36_method_91_code (2 : Nat) (Option.none : Option Jvm.ClassFile.FieldType)) ∈ lw_all := lw_g (lw_at lw_m8 65 rfl) rfl
theorem q1877 : (Jvm.Cond.methodLink "java/lang/StringUTF16" (414 : Nat) ({ cls := "java/lang/String", name := "checkIndex", desc := "(II)V" } : Jvm.MethodName)) ∈ lw_all := lw_g (lw_at lw_m8 66 rfl) rfl
theorem q1902 : (Jvm.Cond.static ({ cls := "java/lang/StringUTF16", name := "fillNull", desc := "([BII)V" } : Jvm.MethodName)) ∈ lw_all := lw_g (lw_at lw_m8 91 rfl) rfl
theorem q1903 : (Jvm.Cond.code ({ cls := "java/lang/StringUTF16", name := "fillNull", desc := "([BII)V" } : Jvm.MethodName) prog_36_method_70_code (3 : Nat) (Option.none : Option Jvm.ClassFile.FieldType)) ∈ lw_all := lw_g (lw_at lw_m8 92 rfl) rfl
theorem q1904 : (Jvm.Cond.methodLink "java/lang/StringUTF16" (380 : Nat) ({ cls := "java/util/Arrays", name := "fill", desc := "([BIIB)V" } : Jvm.MethodName)) ∈ lw_all := lw_g (lw_at lw_m8 93 rfl) rfl
/-! java/lang/Throwable -/
set_option maxRecDepth 100000
def RJ11 : String := "java/lang/Throwable"
def TJ11 : u_T := fun k => match k with
  | 0 => ("java/lang/Throwable", "cause", "Ljava/lang/Throwable;", false)
  | 1 => ("java/lang/Throwable", "stackTrace", "[Ljava/lang/StackTraceElement;", false)
  | 2 => ("java/lang/Throwable", "suppressedExceptions", "Ljava/util/List;", false)
  | 3 => ("java/lang/Throwable", "detailMessage", "Ljava/lang/String;", false)
  | _ => ("java/lang/Throwable", "backtrace", "Ljava/lang/Object;", false)
def tyJ11 : Nat → FieldType := fun k => match k with
  | 0 => .object "java/lang/Throwable"
  | 1 => .array (.object "java/lang/StackTraceElement")
  | 2 => .object "java/util/List"
  | 3 => .object "java/lang/String"
  | _ => .object "java/lang/Object"
abbrev wsJ110 : List Cond := u_ws RJ11 TJ11 5
theorem nmJ11 : ∀ a, a < 5 → ∀ b, b < 5 → a ≠ b → (TJ11 a).2.1 ≠ (TJ11 b).2.1 := by decide +kernel
theorem tyJ11_ok : ∀ k, k < 5 → parseFieldDescriptor (TJ11 k).2.2.1 = some (tyJ11 k) := by decide +kernel
abbrev cJ11_init : ByteArray := prog_38_method_1_code
def yJ11_init : MethodName := ⟨RJ11, "<init>", "()V"⟩
def dkwJ11_init_1 : List UInt8 := [182, 0, 27, 87, 177]
abbrev dktJ11_init_1 : List UInt8 := dkwJ11_init_1 ++ []
def dkwJ11_init_0 : List UInt8 := [42, 183, 0, 1, 42, 42, 181, 0, 7, 42, 178, 0, 13, 181, 0, 17, 42, 178, 0, 20, 181, 0, 24, 42]
abbrev dktJ11_init_0 : List UInt8 := dkwJ11_init_0 ++ dktJ11_init_1
theorem dksJ11_init_0 : cJ11_init.data.toList.drop 0 = dktJ11_init_0 := by decide +kernel
theorem dksJ11_init_1 : cJ11_init.data.toList.drop 24 = dktJ11_init_1 := dk_seg dksJ11_init_0 24 rfl rfl
theorem dJ11_init_0 : decode cJ11_init 0 = .ok (.aload_n 0, 1) := dk_42 (dk_at dksJ11_init_0 0 rfl rfl)
theorem dJ11_init_1 : decode cJ11_init 1 = .ok (.invokespecial 1, 3) := dk_183 0 1 (dk_at dksJ11_init_0 1 rfl rfl)
theorem dJ11_init_4 : decode cJ11_init 4 = .ok (.aload_n 0, 1) := dk_42 (dk_at dksJ11_init_0 4 rfl rfl)
theorem dJ11_init_5 : decode cJ11_init 5 = .ok (.aload_n 0, 1) := dk_42 (dk_at dksJ11_init_0 5 rfl rfl)
theorem dJ11_init_6 : decode cJ11_init 6 = .ok (.putfield 7, 3) := dk_181 0 7 (dk_at dksJ11_init_0 6 rfl rfl)
theorem dJ11_init_9 : decode cJ11_init 9 = .ok (.aload_n 0, 1) := dk_42 (dk_at dksJ11_init_0 9 rfl rfl)
theorem dJ11_init_10 : decode cJ11_init 10 = .ok (.getstatic 13, 3) := dk_178 0 13 (dk_at dksJ11_init_0 10 rfl rfl)
theorem dJ11_init_13 : decode cJ11_init 13 = .ok (.putfield 17, 3) := dk_181 0 17 (dk_at dksJ11_init_0 13 rfl rfl)
theorem dJ11_init_16 : decode cJ11_init 16 = .ok (.aload_n 0, 1) := dk_42 (dk_at dksJ11_init_0 16 rfl rfl)
theorem dJ11_init_17 : decode cJ11_init 17 = .ok (.getstatic 20, 3) := dk_178 0 20 (dk_at dksJ11_init_0 17 rfl rfl)
theorem dJ11_init_20 : decode cJ11_init 20 = .ok (.putfield 24, 3) := dk_181 0 24 (dk_at dksJ11_init_0 20 rfl rfl)
theorem dJ11_init_23 : decode cJ11_init 23 = .ok (.aload_n 0, 1) := dk_42 (dk_at dksJ11_init_0 23 rfl rfl)
theorem dJ11_init_24 : decode cJ11_init 24 = .ok (.invokevirtual 27, 3) := dk_182 0 27 (dk_at dksJ11_init_1 0 rfl rfl)
theorem dJ11_init_27 : decode cJ11_init 27 = .ok (.pop, 1) := dk_87 (dk_at dksJ11_init_1 3 rfl rfl)
theorem dJ11_init_28 : decode cJ11_init 28 = .ok (.return_, 1) := dk_177 (dk_at dksJ11_init_1 4 rfl rfl)
abbrev cJ11_init_2 : ByteArray := prog_38_method_2_code
def yJ11_init_2 : MethodName := ⟨RJ11, "<init>", "(Ljava/lang/String;)V"⟩
def dkwJ11_init_2_1 : List UInt8 := [182, 0, 27, 87, 42, 43, 181, 0, 31, 177]
abbrev dktJ11_init_2_1 : List UInt8 := dkwJ11_init_2_1 ++ []
def dkwJ11_init_2_0 : List UInt8 := [42, 183, 0, 1, 42, 42, 181, 0, 7, 42, 178, 0, 13, 181, 0, 17, 42, 178, 0, 20, 181, 0, 24, 42]
abbrev dktJ11_init_2_0 : List UInt8 := dkwJ11_init_2_0 ++ dktJ11_init_2_1
theorem dksJ11_init_2_0 : cJ11_init_2.data.toList.drop 0 = dktJ11_init_2_0 := by decide +kernel
theorem dksJ11_init_2_1 : cJ11_init_2.data.toList.drop 24 = dktJ11_init_2_1 := dk_seg dksJ11_init_2_0 24 rfl rfl
theorem dJ11_init_2_0 : decode cJ11_init_2 0 = .ok (.aload_n 0, 1) := dk_42 (dk_at dksJ11_init_2_0 0 rfl rfl)
theorem dJ11_init_2_1 : decode cJ11_init_2 1 = .ok (.invokespecial 1, 3) := dk_183 0 1 (dk_at dksJ11_init_2_0 1 rfl rfl)
theorem dJ11_init_2_4 : decode cJ11_init_2 4 = .ok (.aload_n 0, 1) := dk_42 (dk_at dksJ11_init_2_0 4 rfl rfl)
theorem dJ11_init_2_5 : decode cJ11_init_2 5 = .ok (.aload_n 0, 1) := dk_42 (dk_at dksJ11_init_2_0 5 rfl rfl)
theorem dJ11_init_2_6 : decode cJ11_init_2 6 = .ok (.putfield 7, 3) := dk_181 0 7 (dk_at dksJ11_init_2_0 6 rfl rfl)
theorem dJ11_init_2_9 : decode cJ11_init_2 9 = .ok (.aload_n 0, 1) := dk_42 (dk_at dksJ11_init_2_0 9 rfl rfl)
theorem dJ11_init_2_10 : decode cJ11_init_2 10 = .ok (.getstatic 13, 3) := dk_178 0 13 (dk_at dksJ11_init_2_0 10 rfl rfl)
theorem dJ11_init_2_13 : decode cJ11_init_2 13 = .ok (.putfield 17, 3) := dk_181 0 17 (dk_at dksJ11_init_2_0 13 rfl rfl)
theorem dJ11_init_2_16 : decode cJ11_init_2 16 = .ok (.aload_n 0, 1) := dk_42 (dk_at dksJ11_init_2_0 16 rfl rfl)
theorem dJ11_init_2_17 : decode cJ11_init_2 17 = .ok (.getstatic 20, 3) := dk_178 0 20 (dk_at dksJ11_init_2_0 17 rfl rfl)
theorem dJ11_init_2_20 : decode cJ11_init_2 20 = .ok (.putfield 24, 3) := dk_181 0 24 (dk_at dksJ11_init_2_0 20 rfl rfl)
theorem dJ11_init_2_23 : decode cJ11_init_2 23 = .ok (.aload_n 0, 1) := dk_42 (dk_at dksJ11_init_2_0 23 rfl rfl)
theorem dJ11_init_2_24 : decode cJ11_init_2 24 = .ok (.invokevirtual 27, 3) := dk_182 0 27 (dk_at dksJ11_init_2_1 0 rfl rfl)
theorem dJ11_init_2_27 : decode cJ11_init_2 27 = .ok (.pop, 1) := dk_87 (dk_at dksJ11_init_2_1 3 rfl rfl)
theorem dJ11_init_2_28 : decode cJ11_init_2 28 = .ok (.aload_n 0, 1) := dk_42 (dk_at dksJ11_init_2_1 4 rfl rfl)
theorem dJ11_init_2_29 : decode cJ11_init_2 29 = .ok (.aload_n 1, 1) := dk_43 (dk_at dksJ11_init_2_1 5 rfl rfl)
theorem dJ11_init_2_30 : decode cJ11_init_2 30 = .ok (.putfield 31, 3) := dk_181 0 31 (dk_at dksJ11_init_2_1 6 rfl rfl)
theorem dJ11_init_2_33 : decode cJ11_init_2 33 = .ok (.return_, 1) := dk_177 (dk_at dksJ11_init_2_1 9 rfl rfl)
abbrev cJ11_init_3 : ByteArray := prog_38_method_4_code
def yJ11_init_3 : MethodName := ⟨RJ11, "<init>", "(Ljava/lang/Throwable;)V"⟩
def dkwJ11_init_3_2 : List UInt8 := [181, 0, 7, 177]
abbrev dktJ11_init_3_2 : List UInt8 := dkwJ11_init_3_2 ++ []
def dkwJ11_init_3_1 : List UInt8 := [182, 0, 27, 87, 42, 43, 199, 0, 7, 1, 167, 0, 7, 43, 182, 0, 35, 181, 0, 31, 42, 43]
abbrev dktJ11_init_3_1 : List UInt8 := dkwJ11_init_3_1 ++ dktJ11_init_3_2
def dkwJ11_init_3_0 : List UInt8 := [42, 183, 0, 1, 42, 42, 181, 0, 7, 42, 178, 0, 13, 181, 0, 17, 42, 178, 0, 20, 181, 0, 24, 42]
abbrev dktJ11_init_3_0 : List UInt8 := dkwJ11_init_3_0 ++ dktJ11_init_3_1
theorem dksJ11_init_3_0 : cJ11_init_3.data.toList.drop 0 = dktJ11_init_3_0 := by decide +kernel
theorem dksJ11_init_3_1 : cJ11_init_3.data.toList.drop 24 = dktJ11_init_3_1 := dk_seg dksJ11_init_3_0 24 rfl rfl
theorem dksJ11_init_3_2 : cJ11_init_3.data.toList.drop 46 = dktJ11_init_3_2 := dk_seg dksJ11_init_3_1 22 rfl rfl
theorem dJ11_init_3_0 : decode cJ11_init_3 0 = .ok (.aload_n 0, 1) := dk_42 (dk_at dksJ11_init_3_0 0 rfl rfl)
theorem dJ11_init_3_1 : decode cJ11_init_3 1 = .ok (.invokespecial 1, 3) := dk_183 0 1 (dk_at dksJ11_init_3_0 1 rfl rfl)
theorem dJ11_init_3_4 : decode cJ11_init_3 4 = .ok (.aload_n 0, 1) := dk_42 (dk_at dksJ11_init_3_0 4 rfl rfl)
theorem dJ11_init_3_5 : decode cJ11_init_3 5 = .ok (.aload_n 0, 1) := dk_42 (dk_at dksJ11_init_3_0 5 rfl rfl)
theorem dJ11_init_3_6 : decode cJ11_init_3 6 = .ok (.putfield 7, 3) := dk_181 0 7 (dk_at dksJ11_init_3_0 6 rfl rfl)
theorem dJ11_init_3_9 : decode cJ11_init_3 9 = .ok (.aload_n 0, 1) := dk_42 (dk_at dksJ11_init_3_0 9 rfl rfl)
theorem dJ11_init_3_10 : decode cJ11_init_3 10 = .ok (.getstatic 13, 3) := dk_178 0 13 (dk_at dksJ11_init_3_0 10 rfl rfl)
theorem dJ11_init_3_13 : decode cJ11_init_3 13 = .ok (.putfield 17, 3) := dk_181 0 17 (dk_at dksJ11_init_3_0 13 rfl rfl)
theorem dJ11_init_3_16 : decode cJ11_init_3 16 = .ok (.aload_n 0, 1) := dk_42 (dk_at dksJ11_init_3_0 16 rfl rfl)
theorem dJ11_init_3_17 : decode cJ11_init_3 17 = .ok (.getstatic 20, 3) := dk_178 0 20 (dk_at dksJ11_init_3_0 17 rfl rfl)
theorem dJ11_init_3_20 : decode cJ11_init_3 20 = .ok (.putfield 24, 3) := dk_181 0 24 (dk_at dksJ11_init_3_0 20 rfl rfl)
theorem dJ11_init_3_23 : decode cJ11_init_3 23 = .ok (.aload_n 0, 1) := dk_42 (dk_at dksJ11_init_3_0 23 rfl rfl)
theorem dJ11_init_3_24 : decode cJ11_init_3 24 = .ok (.invokevirtual 27, 3) := dk_182 0 27 (dk_at dksJ11_init_3_1 0 rfl rfl)
theorem dJ11_init_3_27 : decode cJ11_init_3 27 = .ok (.pop, 1) := dk_87 (dk_at dksJ11_init_3_1 3 rfl rfl)
theorem dJ11_init_3_28 : decode cJ11_init_3 28 = .ok (.aload_n 0, 1) := dk_42 (dk_at dksJ11_init_3_1 4 rfl rfl)
theorem dJ11_init_3_29 : decode cJ11_init_3 29 = .ok (.aload_n 1, 1) := dk_43 (dk_at dksJ11_init_3_1 5 rfl rfl)
theorem dJ11_init_3_30 : decode cJ11_init_3 30 = .ok (.ifnonnull 7, 3) := dk_199 0 7 (dk_at dksJ11_init_3_1 6 rfl rfl)
theorem dJ11_init_3_33 : decode cJ11_init_3 33 = .ok (.aconst_null, 1) := dk_1 (dk_at dksJ11_init_3_1 9 rfl rfl)
theorem dJ11_init_3_34 : decode cJ11_init_3 34 = .ok (.goto 7, 3) := dk_167 0 7 (dk_at dksJ11_init_3_1 10 rfl rfl)
theorem dJ11_init_3_37 : decode cJ11_init_3 37 = .ok (.aload_n 1, 1) := dk_43 (dk_at dksJ11_init_3_1 13 rfl rfl)
theorem dJ11_init_3_38 : decode cJ11_init_3 38 = .ok (.invokevirtual 35, 3) := dk_182 0 35 (dk_at dksJ11_init_3_1 14 rfl rfl)
theorem dJ11_init_3_41 : decode cJ11_init_3 41 = .ok (.putfield 31, 3) := dk_181 0 31 (dk_at dksJ11_init_3_1 17 rfl rfl)
theorem dJ11_init_3_44 : decode cJ11_init_3 44 = .ok (.aload_n 0, 1) := dk_42 (dk_at dksJ11_init_3_1 20 rfl rfl)
theorem dJ11_init_3_45 : decode cJ11_init_3 45 = .ok (.aload_n 1, 1) := dk_43 (dk_at dksJ11_init_3_1 21 rfl rfl)
theorem dJ11_init_3_46 : decode cJ11_init_3 46 = .ok (.putfield 7, 3) := dk_181 0 7 (dk_at dksJ11_init_3_2 0 rfl rfl)
theorem dJ11_init_3_49 : decode cJ11_init_3 49 = .ok (.return_, 1) := dk_177 (dk_at dksJ11_init_3_2 3 rfl rfl)
abbrev cJ11_toString : ByteArray := prog_38_method_11_code
def yJ11_toString : MethodName := ⟨RJ11, "toString", "()Ljava/lang/String;"⟩
def dkwJ11_toString_1 : List UInt8 := [43, 182, 0, 49, 18, 81, 182, 0, 49, 44, 182, 0, 49, 182, 0, 60, 167, 0, 4, 43, 176]
abbrev dktJ11_toString_1 : List UInt8 := dkwJ11_toString_1 ++ []
def dkwJ11_toString_0 : List UInt8 := [42, 182, 0, 69, 182, 0, 73, 76, 42, 182, 0, 78, 77, 44, 198, 0, 29, 187, 0, 44, 89, 183, 0, 46]
abbrev dktJ11_toString_0 : List UInt8 := dkwJ11_toString_0 ++ dktJ11_toString_1
theorem dksJ11_toString_0 : cJ11_toString.data.toList.drop 0 = dktJ11_toString_0 := by decide +kernel
theorem dksJ11_toString_1 : cJ11_toString.data.toList.drop 24 = dktJ11_toString_1 := dk_seg dksJ11_toString_0 24 rfl rfl
theorem dJ11_toString_0 : decode cJ11_toString 0 = .ok (.aload_n 0, 1) := dk_42 (dk_at dksJ11_toString_0 0 rfl rfl)
theorem dJ11_toString_1 : decode cJ11_toString 1 = .ok (.invokevirtual 69, 3) := dk_182 0 69 (dk_at dksJ11_toString_0 1 rfl rfl)
theorem dJ11_toString_4 : decode cJ11_toString 4 = .ok (.invokevirtual 73, 3) := dk_182 0 73 (dk_at dksJ11_toString_0 4 rfl rfl)
theorem dJ11_toString_7 : decode cJ11_toString 7 = .ok (.astore_n 1, 1) := dk_76 (dk_at dksJ11_toString_0 7 rfl rfl)
theorem dJ11_toString_8 : decode cJ11_toString 8 = .ok (.aload_n 0, 1) := dk_42 (dk_at dksJ11_toString_0 8 rfl rfl)
theorem dJ11_toString_9 : decode cJ11_toString 9 = .ok (.invokevirtual 78, 3) := dk_182 0 78 (dk_at dksJ11_toString_0 9 rfl rfl)
theorem dJ11_toString_12 : decode cJ11_toString 12 = .ok (.astore_n 2, 1) := dk_77 (dk_at dksJ11_toString_0 12 rfl rfl)
theorem dJ11_toString_13 : decode cJ11_toString 13 = .ok (.aload_n 2, 1) := dk_44 (dk_at dksJ11_toString_0 13 rfl rfl)
theorem dJ11_toString_14 : decode cJ11_toString 14 = .ok (.ifnull 29, 3) := dk_198 0 29 (dk_at dksJ11_toString_0 14 rfl rfl)
theorem dJ11_toString_17 : decode cJ11_toString 17 = .ok (.new 44, 3) := dk_187 0 44 (dk_at dksJ11_toString_0 17 rfl rfl)
theorem dJ11_toString_20 : decode cJ11_toString 20 = .ok (.dup, 1) := dk_89 (dk_at dksJ11_toString_0 20 rfl rfl)
theorem dJ11_toString_21 : decode cJ11_toString 21 = .ok (.invokespecial 46, 3) := dk_183 0 46 (dk_at dksJ11_toString_0 21 rfl rfl)
theorem dJ11_toString_24 : decode cJ11_toString 24 = .ok (.aload_n 1, 1) := dk_43 (dk_at dksJ11_toString_1 0 rfl rfl)
theorem dJ11_toString_25 : decode cJ11_toString 25 = .ok (.invokevirtual 49, 3) := dk_182 0 49 (dk_at dksJ11_toString_1 1 rfl rfl)
theorem dJ11_toString_28 : decode cJ11_toString 28 = .ok (.ldc 81, 2) := dk_18 81 (dk_at dksJ11_toString_1 4 rfl rfl)
theorem dJ11_toString_30 : decode cJ11_toString 30 = .ok (.invokevirtual 49, 3) := dk_182 0 49 (dk_at dksJ11_toString_1 6 rfl rfl)
theorem dJ11_toString_33 : decode cJ11_toString 33 = .ok (.aload_n 2, 1) := dk_44 (dk_at dksJ11_toString_1 9 rfl rfl)
theorem dJ11_toString_34 : decode cJ11_toString 34 = .ok (.invokevirtual 49, 3) := dk_182 0 49 (dk_at dksJ11_toString_1 10 rfl rfl)
theorem dJ11_toString_37 : decode cJ11_toString 37 = .ok (.invokevirtual 60, 3) := dk_182 0 60 (dk_at dksJ11_toString_1 13 rfl rfl)
theorem dJ11_toString_40 : decode cJ11_toString 40 = .ok (.goto 4, 3) := dk_167 0 4 (dk_at dksJ11_toString_1 16 rfl rfl)
theorem dJ11_toString_43 : decode cJ11_toString 43 = .ok (.aload_n 1, 1) := dk_43 (dk_at dksJ11_toString_1 19 rfl rfl)
theorem dJ11_toString_44 : decode cJ11_toString 44 = .ok (.areturn, 1) := dk_176 (dk_at dksJ11_toString_1 20 rfl rfl)
abbrev cJ11_getLocalizedMessage : ByteArray := prog_38_method_7_code
def yJ11_getLocalizedMessage : MethodName := ⟨RJ11, "getLocalizedMessage", "()Ljava/lang/String;"⟩
theorem dJ11_getLocalizedMessage_0 : decode cJ11_getLocalizedMessage 0 = .ok (.aload_n 0, 1) := by decide +kernel
theorem dJ11_getLocalizedMessage_1 : decode cJ11_getLocalizedMessage 1 = .ok (.invokevirtual 39, 3) := by decide +kernel
theorem dJ11_getLocalizedMessage_4 : decode cJ11_getLocalizedMessage 4 = .ok (.areturn, 1) := by decide +kernel
abbrev cJ11_getMessage : ByteArray := prog_38_method_6_code
def yJ11_getMessage : MethodName := ⟨RJ11, "getMessage", "()Ljava/lang/String;"⟩
theorem dJ11_getMessage_0 : decode cJ11_getMessage 0 = .ok (.aload_n 0, 1) := by decide +kernel
theorem dJ11_getMessage_1 : decode cJ11_getMessage 1 = .ok (.getfield 31, 3) := by decide +kernel
theorem dJ11_getMessage_4 : decode cJ11_getMessage 4 = .ok (.areturn, 1) := by decide +kernel
theorem q149 : (Jvm.Cond.initialized "java/lang/Throwable") ∈ lw_all := lw_g (lw_at lw_m1 18 rfl) rfl
theorem q488 : (Jvm.Cond.declares ({ cls := "java/lang/Throwable", name := "<init>", desc := "()V" } : Jvm.MethodName)) ∈ lw_tbl := lw_at lw_m2 117 rfl
theorem q489 : (Jvm.Cond.declares ({ cls := "java/lang/Throwable", name := "<init>", desc := "(Ljava/lang/String;)V" } : Jvm.MethodName)) ∈ lw_tbl := lw_at lw_m2 118 rfl
theorem q493 : (Jvm.Cond.lays "java/lang/Throwable" "java/lang/Throwable" "cause" "Ljava/lang/Throwable;") ∈ lw_all := lw_g (lw_at lw_m2 122 rfl) rfl
theorem q495 : (Jvm.Cond.lays "java/lang/Throwable" "java/lang/Throwable" "stackTrace" "[Ljava/lang/StackTraceElement;") ∈ lw_all := lw_g (lw_at lw_m2 124 rfl) rfl
theorem q497 : (Jvm.Cond.lays "java/lang/Throwable" "java/lang/Throwable" "suppressedExceptions" "Ljava/util/List;") ∈ lw_all := lw_g (lw_at lw_m2 126 rfl) rfl
theorem q499 : (Jvm.Cond.lays "java/lang/Throwable" "java/lang/Throwable" "detailMessage" "Ljava/lang/String;") ∈ lw_all := lw_g (lw_at lw_m2 128 rfl) rfl
theorem q501 : (Jvm.Cond.lays "java/lang/Throwable" "java/lang/Throwable" "backtrace" "Ljava/lang/Object;") ∈ lw_all := lw_g (lw_at lw_m2 130 rfl) rfl
theorem q502 : (Jvm.Cond.fieldLink "java/lang/Throwable" (198 : Nat) "java/lang/Throwable" "backtrace" "Ljava/lang/Object;") ∈ lw_all := lw_g (lw_at lw_m2 131 rfl) rfl
theorem q503 : (Jvm.Cond.superclass "java/lang/Throwable" "java/lang/Object") ∈ lw_all := lw_g (lw_at lw_m2 132 rfl) rfl
theorem q504 : (Jvm.Cond.instanceMethod ({ cls := "java/lang/Throwable", name := "<init>", desc := "()V" } : Jvm.MethodName)) ∈ lw_all := lw_g (lw_at lw_m2 133 rfl) rfl
theorem q505 : (Jvm.Cond.code ({ cls := "java/lang/Throwable", name := "<init>", desc := "()V" } : Jvm.MethodName) prog_38_method_1_code (1 : Nat) (Option.none : Option Jvm.ClassFile.FieldType)) ∈ lw_all := lw_g (lw_at lw_m2 134 rfl) rfl
theorem q506 : (Jvm.Cond.methodLink "java/lang/Throwable" (1 : Nat) ({ cls := "java/lang/Object", name := "<init>", desc := "()V" } : Jvm.MethodName)) ∈ lw_all := lw_g (lw_at lw_m2 135 rfl) rfl
theorem q507 : (Jvm.Cond.fieldLink "java/lang/Throwable" (13 : Nat) "java/lang/Throwable" "UNASSIGNED_STACK" "[Ljava/lang/StackTraceElement;") ∈ lw_all := lw_g (lw_at lw_m2 136 rfl) rfl
theorem q508 : (Jvm.Cond.laysStatic "java/lang/Throwable" "UNASSIGNED_STACK" "[Ljava/lang/StackTraceElement;") ∈ lw_tbl := lw_at lw_m2 137 rfl
theorem q509 : (Jvm.Cond.fieldLink "java/lang/Throwable" (20 : Nat) "java/lang/Throwable" "SUPPRESSED_SENTINEL" "Ljava/util/List;") ∈ lw_all := lw_g (lw_at lw_m2 138 rfl) rfl
theorem q510 : (Jvm.Cond.laysStatic "java/lang/Throwable" "SUPPRESSED_SENTINEL" "Ljava/util/List;") ∈ lw_tbl := lw_at lw_m2 139 rfl
theorem q511 : (Jvm.Cond.methodLink "java/lang/Throwable" (27 : Nat) ({ cls := "java/lang/Throwable", name := "fillInStackTrace", desc := "()Ljava/lang/Throwable;" } : Jvm.MethodName)) ∈ lw_all := lw_g (lw_at lw_m2 140 rfl) rfl
theorem q512 : (Jvm.Cond.instanceMethod ({ cls := "java/lang/Throwable", name := "fillInStackTrace", desc := "()Ljava/lang/Throwable;" } : Jvm.MethodName)) ∈ lw_all := lw_g (lw_at lw_m2 141 rfl) rfl
theorem q513 : (Jvm.Cond.sameMethod "java/lang/Throwable" "java/lang/Throwable" "fillInStackTrace" "()Ljava/lang/Throwable;") ∈ lw_all := lw_g (lw_at lw_m2 142 rfl) rfl
theorem q518 : (Jvm.Cond.codeSync ({ cls := "java/lang/Throwable", name := "fillInStackTrace", desc := "()Ljava/lang/Throwable;" } : Jvm.MethodName) prog_38_method_18_code (1 : Nat) (Option.some (Jvm.ClassFile.FieldType.object "java/lang/Throwable"))) ∈ lw_all := lw_g (lw_at lw_m2 147 rfl) rfl
theorem q519 : (Jvm.Cond.methodLink "java/lang/Throwable" (202 : Nat) ({ cls := "java/lang/Throwable", name := "fillInStackTrace", desc := "(I)Ljava/lang/Throwable;" } : Jvm.MethodName)) ∈ lw_all := lw_g (lw_at lw_m2 148 rfl) rfl
theorem q520 : (Jvm.Cond.privateMethod ({ cls := "java/lang/Throwable", name := "fillInStackTrace", desc := "(I)Ljava/lang/Throwable;" } : Jvm.MethodName)) ∈ lw_tbl := lw_at lw_m2 149 rfl
theorem q521 : (Jvm.Cond.instanceMethod ({ cls := "java/lang/Throwable", name := "fillInStackTrace", desc := "(I)Ljava/lang/Throwable;" } : Jvm.MethodName)) ∈ lw_all := lw_g (lw_at lw_m2 150 rfl) rfl
theorem q522 : (Jvm.Cond.instantiable "java/lang/Throwable" (6 : Nat)) ∈ lw_all := lw_g (lw_at lw_m2 151 rfl) rfl
theorem q523 : (Jvm.Cond.native ({ cls := "java/lang/Throwable", name := "fillInStackTrace", desc := "(I)Ljava/lang/Throwable;" } : Jvm.MethodName)) ∈ lw_all := lw_g (lw_at lw_m2 152 rfl) rfl
theorem q532 : (Jvm.Cond.instanceMethod ({ cls := "java/lang/Throwable", name := "<init>", desc := "(Ljava/lang/String;)V" } : Jvm.MethodName)) ∈ lw_all := lw_g (lw_at lw_m2 161 rfl) rfl
theorem q533 : (Jvm.Cond.code ({ cls := "java/lang/Throwable", name := "<init>", desc := "(Ljava/lang/String;)V" } : Jvm.MethodName) prog_38_method_2_code (2 : Nat) (Option.none : Option Jvm.ClassFile.FieldType)) ∈ lw_all := lw_g (lw_at lw_m2 162 rfl) rfl
theorem q534 : (Jvm.Cond.fieldLink "java/lang/Throwable" (198 : Nat) "java/lang/Throwable" "backtrace" "Ljava/lang/Object;") ∈ lw_all := lw_g (lw_at lw_m2 163 rfl) rfl
theorem q535 : (Jvm.Cond.fieldLink "java/lang/Throwable" (31 : Nat) "java/lang/Throwable" "detailMessage" "Ljava/lang/String;") ∈ lw_all := lw_g (lw_at lw_m2 164 rfl) rfl
theorem q536 : (Jvm.Cond.fieldLink "java/lang/Throwable" (7 : Nat) "java/lang/Throwable" "cause" "Ljava/lang/Throwable;") ∈ lw_all := lw_g (lw_at lw_m2 165 rfl) rfl
theorem q537 : (Jvm.Cond.fieldLink "java/lang/Throwable" (17 : Nat) "java/lang/Throwable" "stackTrace" "[Ljava/lang/StackTraceElement;") ∈ lw_all := lw_g (lw_at lw_m2 166 rfl) rfl
theorem q538 : (Jvm.Cond.fieldLink "java/lang/Throwable" (24 : Nat) "java/lang/Throwable" "suppressedExceptions" "Ljava/util/List;") ∈ lw_all := lw_g (lw_at lw_m2 167 rfl) rfl
theorem q539 : (Jvm.Cond.soleField "java/lang/Throwable" "backtrace") ∈ lw_all := lw_g (lw_at lw_m2 168 rfl) rfl
theorem q540 : (Jvm.Cond.soleField "java/lang/Throwable" "detailMessage") ∈ lw_all := lw_g (lw_at lw_m2 169 rfl) rfl
theorem q541 : (Jvm.Cond.soleField "java/lang/Throwable" "cause") ∈ lw_all := lw_g (lw_at lw_m2 170 rfl) rfl
theorem q542 : (Jvm.Cond.soleField "java/lang/Throwable" "stackTrace") ∈ lw_all := lw_g (lw_at lw_m2 171 rfl) rfl
theorem q544 : (Jvm.Cond.soleField "java/lang/Throwable" "depth") ∈ lw_all := lw_g (lw_at lw_m2 173 rfl) rfl
theorem q545 : (Jvm.Cond.soleField "java/lang/Throwable" "suppressedExceptions") ∈ lw_all := lw_g (lw_at lw_m2 174 rfl) rfl
theorem q1391 : (Jvm.Cond.instanceMethod ({ cls := "java/lang/Throwable", name := "<init>", desc := "(Ljava/lang/Throwable;)V" } : Jvm.MethodName)) ∈ lw_all := lw_g (lw_at lw_m6 60 rfl) rfl
theorem q1392 : (Jvm.Cond.code ({ cls := "java/lang/Throwable", name := "<init>", desc := "(Ljava/lang/Throwable;)V" } : Jvm.MethodName) prog_38_method_4_code (2 : Nat) (Option.none : Option Jvm.ClassFile.FieldType)) ∈ lw_all := lw_g (lw_at lw_m6 61 rfl) rfl
theorem q1393 : (Jvm.Cond.methodLink "java/lang/Throwable" (35 : Nat) ({ cls := "java/lang/Throwable", name := "toString", desc := "()Ljava/lang/String;" } : Jvm.MethodName)) ∈ lw_all := lw_g (lw_at lw_m6 62 rfl) rfl
theorem q1394 : (Jvm.Cond.instanceMethod ({ cls := "java/lang/Throwable", name := "toString", desc := "()Ljava/lang/String;" } : Jvm.MethodName)) ∈ lw_all := lw_g (lw_at lw_m6 63 rfl) rfl
theorem q1395 : (Jvm.Cond.sameMethod "java/lang/Throwable" "java/lang/Throwable" "toString" "()Ljava/lang/String;") ∈ lw_all := lw_g (lw_at lw_m6 64 rfl) rfl
theorem q1401 : (Jvm.Cond.code ({ cls := "java/lang/Throwable", name := "toString", desc := "()Ljava/lang/String;" } : Jvm.MethodName) prog_38_method_11_code (3 : Nat) (Option.some (Jvm.ClassFile.FieldType.object "java/lang/String"))) ∈ lw_all := lw_g (lw_at lw_m6 70 rfl) rfl
theorem q1402 : (Jvm.Cond.methodLink "java/lang/Throwable" (69 : Nat) ({ cls := "java/lang/Object", name := "getClass", desc := "()Ljava/lang/Class;" } : Jvm.MethodName)) ∈ lw_all := lw_g (lw_at lw_m6 71 rfl) rfl
theorem q1403 : (Jvm.Cond.methodLink "java/lang/Throwable" (78 : Nat) ({ cls := "java/lang/Throwable", name := "getLocalizedMessage", desc := "()Ljava/lang/String;" } : Jvm.MethodName)) ∈ lw_all := lw_g (lw_at lw_m6 72 rfl) rfl
theorem q1404 : (Jvm.Cond.instanceMethod ({ cls := "java/lang/Throwable", name := "getLocalizedMessage", desc := "()Ljava/lang/String;" } : Jvm.MethodName)) ∈ lw_all := lw_g (lw_at lw_m6 73 rfl) rfl
theorem q1405 : (Jvm.Cond.sameMethod "java/lang/Throwable" "java/lang/Throwable" "getLocalizedMessage" "()Ljava/lang/String;") ∈ lw_all := lw_g (lw_at lw_m6 74 rfl) rfl
theorem q1411 : (Jvm.Cond.code ({ cls := "java/lang/Throwable", name := "getLocalizedMessage", desc := "()Ljava/lang/String;" } : Jvm.MethodName) prog_38_method_7_code (1 : Nat) (Option.some (Jvm.ClassFile.FieldType.object "java/lang/String"))) ∈ lw_all := lw_g (lw_at lw_m6 80 rfl) rfl
theorem q1412 : (Jvm.Cond.methodLink "java/lang/Throwable" (39 : Nat) ({ cls := "java/lang/Throwable", name := "getMessage", desc := "()Ljava/lang/String;" } : Jvm.MethodName)) ∈ lw_all := lw_g (lw_at lw_m6 81 rfl) rfl
theorem q1413 : (Jvm.Cond.instanceMethod ({ cls := "java/lang/Throwable", name := "getMessage", desc := "()Ljava/lang/String;" } : Jvm.MethodName)) ∈ lw_all := lw_g (lw_at lw_m6 82 rfl) rfl
theorem q1414 : (Jvm.Cond.sameMethod "java/lang/Throwable" "java/lang/Throwable" "getMessage" "()Ljava/lang/String;") ∈ lw_all := lw_g (lw_at lw_m6 83 rfl) rfl
theorem q1420 : (Jvm.Cond.code ({ cls := "java/lang/Throwable", name := "getMessage", desc := "()Ljava/lang/String;" } : Jvm.MethodName) prog_38_method_6_code (1 : Nat) (Option.some (Jvm.ClassFile.FieldType.object "java/lang/String"))) ∈ lw_all := lw_g (lw_at lw_m6 89 rfl) rfl
theorem q1421 : (Jvm.Cond.classLink "java/lang/Throwable" (44 : Nat) "java/lang/StringBuilder") ∈ lw_all := lw_g (lw_at lw_m6 90 rfl) rfl
theorem q1422 : (Jvm.Cond.methodLink "java/lang/Throwable" (46 : Nat) ({ cls := "java/lang/StringBuilder", name := "<init>", desc := "()V" } : Jvm.MethodName)) ∈ lw_all := lw_g (lw_at lw_m6 91 rfl) rfl
theorem q1423 : (Jvm.Cond.methodLink "java/lang/Throwable" (49 : Nat) ({ cls := "java/lang/StringBuilder", name := "append", desc := "(Ljava/lang/String;)Ljava/lang/StringBuilder;" } : Jvm.MethodName)) ∈ lw_all := lw_g (lw_at lw_m6 92 rfl) rfl
theorem q1526 : (Jvm.Cond.stringRef "java/lang/Throwable" (81 : Nat) ": ") ∈ lw_tbl := lw_at lw_m6 195 rfl
theorem q1527 : (Jvm.Cond.methodLink "java/lang/Throwable" (60 : Nat) ({ cls := "java/lang/StringBuilder", name := "toString", desc := "()Ljava/lang/String;" } : Jvm.MethodName)) ∈ lw_all := lw_g (lw_at lw_m6 196 rfl) rfl
theorem q2976 : (Jvm.Cond.sameMethod "java/lang/Throwable" "java/lang/Throwable" "fillInStackTrace" "(I)Ljava/lang/Throwable;") ∈ lw_all := lw_g (lw_at lw_m12 205 rfl) rfl
theorem q3027 : (Jvm.Cond.castable "java/lang/Throwable" "java/lang/Object") ∈ lw_tbl := lw_at lw_m13 16 rfl
theorem in_J11 : ∀ w ∈ wsJ110, w ∈ lw_all := lw_in wsJ110 [493, 495, 497, 499, 501] (by decide +kernel) (by decide +kernel)
/-! java/lang/Exception -/
set_option maxRecDepth 100000
def RJ12 : String := "java/lang/Exception"
abbrev cJ12_init : ByteArray := prog_25_method_2_code
def yJ12_init : MethodName := ⟨RJ12, "<init>", "(Ljava/lang/String;)V"⟩
def dkwJ12_init_0 : List UInt8 := [42, 43, 183, 0, 7, 177]
abbrev dktJ12_init_0 : List UInt8 := dkwJ12_init_0 ++ []
theorem dksJ12_init_0 : cJ12_init.data.toList.drop 0 = dktJ12_init_0 := by decide +kernel
theorem dJ12_init_0 : decode cJ12_init 0 = .ok (.aload_n 0, 1) := dk_42 (dk_at dksJ12_init_0 0 rfl rfl)
theorem dJ12_init_1 : decode cJ12_init 1 = .ok (.aload_n 1, 1) := dk_43 (dk_at dksJ12_init_0 1 rfl rfl)
theorem dJ12_init_2 : decode cJ12_init 2 = .ok (.invokespecial 7, 3) := dk_183 0 7 (dk_at dksJ12_init_0 2 rfl rfl)
theorem dJ12_init_5 : decode cJ12_init 5 = .ok (.return_, 1) := dk_177 (dk_at dksJ12_init_0 5 rfl rfl)
abbrev cJ12_init_2 : ByteArray := prog_25_method_4_code
def yJ12_init_2 : MethodName := ⟨RJ12, "<init>", "(Ljava/lang/Throwable;)V"⟩
def dkwJ12_init_2_0 : List UInt8 := [42, 43, 183, 0, 13, 177]
abbrev dktJ12_init_2_0 : List UInt8 := dkwJ12_init_2_0 ++ []
theorem dksJ12_init_2_0 : cJ12_init_2.data.toList.drop 0 = dktJ12_init_2_0 := by decide +kernel
theorem dJ12_init_2_0 : decode cJ12_init_2 0 = .ok (.aload_n 0, 1) := dk_42 (dk_at dksJ12_init_2_0 0 rfl rfl)
theorem dJ12_init_2_1 : decode cJ12_init_2 1 = .ok (.aload_n 1, 1) := dk_43 (dk_at dksJ12_init_2_0 1 rfl rfl)
theorem dJ12_init_2_2 : decode cJ12_init_2 2 = .ok (.invokespecial 13, 3) := dk_183 0 13 (dk_at dksJ12_init_2_0 2 rfl rfl)
theorem dJ12_init_2_5 : decode cJ12_init_2 5 = .ok (.return_, 1) := dk_177 (dk_at dksJ12_init_2_0 5 rfl rfl)
abbrev cJ12_init_3 : ByteArray := prog_25_method_1_code
def yJ12_init_3 : MethodName := ⟨RJ12, "<init>", "()V"⟩
theorem dJ12_init_3_0 : decode cJ12_init_3 0 = .ok (.aload_n 0, 1) := by decide +kernel
theorem dJ12_init_3_1 : decode cJ12_init_3 1 = .ok (.invokespecial 1, 3) := by decide +kernel
theorem dJ12_init_3_4 : decode cJ12_init_3 4 = .ok (.return_, 1) := by decide +kernel
theorem q150 : (Jvm.Cond.initialized "java/lang/Exception") ∈ lw_all := lw_g (lw_at lw_m1 19 rfl) rfl
theorem q486 : (Jvm.Cond.declares ({ cls := "java/lang/Exception", name := "<init>", desc := "()V" } : Jvm.MethodName)) ∈ lw_tbl := lw_at lw_m2 115 rfl
theorem q487 : (Jvm.Cond.declares ({ cls := "java/lang/Exception", name := "<init>", desc := "(Ljava/lang/String;)V" } : Jvm.MethodName)) ∈ lw_tbl := lw_at lw_m2 116 rfl
theorem q529 : (Jvm.Cond.instanceMethod ({ cls := "java/lang/Exception", name := "<init>", desc := "(Ljava/lang/String;)V" } : Jvm.MethodName)) ∈ lw_all := lw_g (lw_at lw_m2 158 rfl) rfl
theorem q530 : (Jvm.Cond.code ({ cls := "java/lang/Exception", name := "<init>", desc := "(Ljava/lang/String;)V" } : Jvm.MethodName) prog_25_method_2_code (2 : Nat) (Option.none : Option Jvm.ClassFile.FieldType)) ∈ lw_all := lw_g (lw_at lw_m2 159 rfl) rfl
theorem q531 : (Jvm.Cond.methodLink "java/lang/Exception" (7 : Nat) ({ cls := "java/lang/Throwable", name := "<init>", desc := "(Ljava/lang/String;)V" } : Jvm.MethodName)) ∈ lw_all := lw_g (lw_at lw_m2 160 rfl) rfl
theorem q1388 : (Jvm.Cond.instanceMethod ({ cls := "java/lang/Exception", name := "<init>", desc := "(Ljava/lang/Throwable;)V" } : Jvm.MethodName)) ∈ lw_all := lw_g (lw_at lw_m6 57 rfl) rfl
theorem q1389 : (Jvm.Cond.code ({ cls := "java/lang/Exception", name := "<init>", desc := "(Ljava/lang/Throwable;)V" } : Jvm.MethodName) prog_25_method_4_code (2 : Nat) (Option.none : Option Jvm.ClassFile.FieldType)) ∈ lw_all := lw_g (lw_at lw_m6 58 rfl) rfl
theorem q1390 : (Jvm.Cond.methodLink "java/lang/Exception" (13 : Nat) ({ cls := "java/lang/Throwable", name := "<init>", desc := "(Ljava/lang/Throwable;)V" } : Jvm.MethodName)) ∈ lw_all := lw_g (lw_at lw_m6 59 rfl) rfl
theorem q1617 : (Jvm.Cond.instanceMethod ({ cls := "java/lang/Exception", name := "<init>", desc := "()V" } : Jvm.MethodName)) ∈ lw_all := lw_g (lw_at lw_m7 46 rfl) rfl
theorem q1618 : (Jvm.Cond.code ({ cls := "java/lang/Exception", name := "<init>", desc := "()V" } : Jvm.MethodName) prog_25_method_1_code (1 : Nat) (Option.none : Option Jvm.ClassFile.FieldType)) ∈ lw_all := lw_g (lw_at lw_m7 47 rfl) rfl
theorem q1619 : (Jvm.Cond.methodLink "java/lang/Exception" (1 : Nat) ({ cls := "java/lang/Throwable", name := "<init>", desc := "()V" } : Jvm.MethodName)) ∈ lw_all := lw_g (lw_at lw_m7 48 rfl) rfl
/-! java/lang/Math -/
set_option maxRecDepth 100000
def RJ13 : String := "java/lang/Math"
abbrev cJ13_max : ByteArray := prog_30_method_65_code
def yJ13_max : MethodName := ⟨RJ13, "max", "(II)I"⟩
def dkwJ13_max_0 : List UInt8 := [26, 27, 161, 0, 7, 26, 167, 0, 4, 27, 172]
abbrev dktJ13_max_0 : List UInt8 := dkwJ13_max_0 ++ []
theorem dksJ13_max_0 : cJ13_max.data.toList.drop 0 = dktJ13_max_0 := by decide +kernel
theorem dJ13_max_0 : decode cJ13_max 0 = .ok (.iload_n 0, 1) := dk_26 (dk_at dksJ13_max_0 0 rfl rfl)
theorem dJ13_max_1 : decode cJ13_max 1 = .ok (.iload_n 1, 1) := dk_27 (dk_at dksJ13_max_0 1 rfl rfl)
theorem dJ13_max_2 : decode cJ13_max 2 = .ok (.if_icmp .lt 7, 3) := dk_161 0 7 (dk_at dksJ13_max_0 2 rfl rfl)
theorem dJ13_max_5 : decode cJ13_max 5 = .ok (.iload_n 0, 1) := dk_26 (dk_at dksJ13_max_0 5 rfl rfl)
theorem dJ13_max_6 : decode cJ13_max 6 = .ok (.goto 4, 3) := dk_167 0 4 (dk_at dksJ13_max_0 6 rfl rfl)
theorem dJ13_max_9 : decode cJ13_max 9 = .ok (.iload_n 1, 1) := dk_27 (dk_at dksJ13_max_0 9 rfl rfl)
theorem dJ13_max_10 : decode cJ13_max 10 = .ok (.ireturn, 1) := dk_172 (dk_at dksJ13_max_0 10 rfl rfl)
abbrev cJ13_min : ByteArray := prog_30_method_69_code
def yJ13_min : MethodName := ⟨RJ13, "min", "(II)I"⟩
def dkwJ13_min_0 : List UInt8 := [26, 27, 163, 0, 7, 26, 167, 0, 4, 27, 172]
abbrev dktJ13_min_0 : List UInt8 := dkwJ13_min_0 ++ []
theorem dksJ13_min_0 : cJ13_min.data.toList.drop 0 = dktJ13_min_0 := by decide +kernel
theorem dJ13_min_0 : decode cJ13_min 0 = .ok (.iload_n 0, 1) := dk_26 (dk_at dksJ13_min_0 0 rfl rfl)
theorem dJ13_min_1 : decode cJ13_min 1 = .ok (.iload_n 1, 1) := dk_27 (dk_at dksJ13_min_0 1 rfl rfl)
theorem dJ13_min_2 : decode cJ13_min 2 = .ok (.if_icmp .gt 7, 3) := dk_163 0 7 (dk_at dksJ13_min_0 2 rfl rfl)
theorem dJ13_min_5 : decode cJ13_min 5 = .ok (.iload_n 0, 1) := dk_26 (dk_at dksJ13_min_0 5 rfl rfl)
theorem dJ13_min_6 : decode cJ13_min 6 = .ok (.goto 4, 3) := dk_167 0 4 (dk_at dksJ13_min_0 6 rfl rfl)
theorem dJ13_min_9 : decode cJ13_min 9 = .ok (.iload_n 1, 1) := dk_27 (dk_at dksJ13_min_0 9 rfl rfl)
theorem dJ13_min_10 : decode cJ13_min 10 = .ok (.ireturn, 1) := dk_172 (dk_at dksJ13_min_0 10 rfl rfl)
abbrev cJ13_abs : ByteArray := prog_30_method_59_code
def yJ13_abs : MethodName := ⟨RJ13, "abs", "(I)I"⟩
def dkwJ13_abs_0 : List UInt8 := [26, 156, 0, 8, 26, 116, 167, 0, 4, 26, 172]
abbrev dktJ13_abs_0 : List UInt8 := dkwJ13_abs_0 ++ []
theorem dksJ13_abs_0 : cJ13_abs.data.toList.drop 0 = dktJ13_abs_0 := by decide +kernel
theorem dJ13_abs_0 : decode cJ13_abs 0 = .ok (.iload_n 0, 1) := dk_26 (dk_at dksJ13_abs_0 0 rfl rfl)
theorem dJ13_abs_1 : decode cJ13_abs 1 = .ok (.ifCond .ge 8, 3) := dk_156 0 8 (dk_at dksJ13_abs_0 1 rfl rfl)
theorem dJ13_abs_4 : decode cJ13_abs 4 = .ok (.iload_n 0, 1) := dk_26 (dk_at dksJ13_abs_0 4 rfl rfl)
theorem dJ13_abs_5 : decode cJ13_abs 5 = .ok (.ineg, 1) := dk_116 (dk_at dksJ13_abs_0 5 rfl rfl)
theorem dJ13_abs_6 : decode cJ13_abs 6 = .ok (.goto 4, 3) := dk_167 0 4 (dk_at dksJ13_abs_0 6 rfl rfl)
theorem dJ13_abs_9 : decode cJ13_abs 9 = .ok (.iload_n 0, 1) := dk_26 (dk_at dksJ13_abs_0 9 rfl rfl)
theorem dJ13_abs_10 : decode cJ13_abs 10 = .ok (.ireturn, 1) := dk_172 (dk_at dksJ13_abs_0 10 rfl rfl)
abbrev cJ13_max_2 : ByteArray := prog_30_method_66_code
def yJ13_max_2 : MethodName := ⟨RJ13, "max", "(JJ)J"⟩
def dkwJ13_max_2_0 : List UInt8 := [30, 32, 148, 155, 0, 7, 30, 167, 0, 4, 32, 173]
abbrev dktJ13_max_2_0 : List UInt8 := dkwJ13_max_2_0 ++ []
theorem dksJ13_max_2_0 : cJ13_max_2.data.toList.drop 0 = dktJ13_max_2_0 := by decide +kernel
theorem dJ13_max_2_0 : decode cJ13_max_2 0 = .ok (.lload_n 0, 1) := dk_30 (dk_at dksJ13_max_2_0 0 rfl rfl)
theorem dJ13_max_2_1 : decode cJ13_max_2 1 = .ok (.lload_n 2, 1) := dk_32 (dk_at dksJ13_max_2_0 1 rfl rfl)
theorem dJ13_max_2_2 : decode cJ13_max_2 2 = .ok (.lcmp, 1) := dk_148 (dk_at dksJ13_max_2_0 2 rfl rfl)
theorem dJ13_max_2_3 : decode cJ13_max_2 3 = .ok (.ifCond .lt 7, 3) := dk_155 0 7 (dk_at dksJ13_max_2_0 3 rfl rfl)
theorem dJ13_max_2_6 : decode cJ13_max_2 6 = .ok (.lload_n 0, 1) := dk_30 (dk_at dksJ13_max_2_0 6 rfl rfl)
theorem dJ13_max_2_7 : decode cJ13_max_2 7 = .ok (.goto 4, 3) := dk_167 0 4 (dk_at dksJ13_max_2_0 7 rfl rfl)
theorem dJ13_max_2_10 : decode cJ13_max_2 10 = .ok (.lload_n 2, 1) := dk_32 (dk_at dksJ13_max_2_0 10 rfl rfl)
theorem dJ13_max_2_11 : decode cJ13_max_2 11 = .ok (.lreturn, 1) := dk_173 (dk_at dksJ13_max_2_0 11 rfl rfl)
abbrev cJ13_min_2 : ByteArray := prog_30_method_70_code
def yJ13_min_2 : MethodName := ⟨RJ13, "min", "(JJ)J"⟩
def dkwJ13_min_2_0 : List UInt8 := [30, 32, 148, 157, 0, 7, 30, 167, 0, 4, 32, 173]
abbrev dktJ13_min_2_0 : List UInt8 := dkwJ13_min_2_0 ++ []
theorem dksJ13_min_2_0 : cJ13_min_2.data.toList.drop 0 = dktJ13_min_2_0 := by decide +kernel
theorem dJ13_min_2_0 : decode cJ13_min_2 0 = .ok (.lload_n 0, 1) := dk_30 (dk_at dksJ13_min_2_0 0 rfl rfl)
theorem dJ13_min_2_1 : decode cJ13_min_2 1 = .ok (.lload_n 2, 1) := dk_32 (dk_at dksJ13_min_2_0 1 rfl rfl)
theorem dJ13_min_2_2 : decode cJ13_min_2 2 = .ok (.lcmp, 1) := dk_148 (dk_at dksJ13_min_2_0 2 rfl rfl)
theorem dJ13_min_2_3 : decode cJ13_min_2 3 = .ok (.ifCond .gt 7, 3) := dk_157 0 7 (dk_at dksJ13_min_2_0 3 rfl rfl)
theorem dJ13_min_2_6 : decode cJ13_min_2 6 = .ok (.lload_n 0, 1) := dk_30 (dk_at dksJ13_min_2_0 6 rfl rfl)
theorem dJ13_min_2_7 : decode cJ13_min_2 7 = .ok (.goto 4, 3) := dk_167 0 4 (dk_at dksJ13_min_2_0 7 rfl rfl)
theorem dJ13_min_2_10 : decode cJ13_min_2 10 = .ok (.lload_n 2, 1) := dk_32 (dk_at dksJ13_min_2_0 10 rfl rfl)
theorem dJ13_min_2_11 : decode cJ13_min_2 11 = .ok (.lreturn, 1) := dk_173 (dk_at dksJ13_min_2_0 11 rfl rfl)
abbrev cJ13_abs_2 : ByteArray := prog_30_method_61_code
def yJ13_abs_2 : MethodName := ⟨RJ13, "abs", "(J)J"⟩
def dkwJ13_abs_2_0 : List UInt8 := [30, 9, 148, 156, 0, 8, 30, 117, 167, 0, 4, 30, 173]
abbrev dktJ13_abs_2_0 : List UInt8 := dkwJ13_abs_2_0 ++ []
theorem dksJ13_abs_2_0 : cJ13_abs_2.data.toList.drop 0 = dktJ13_abs_2_0 := by decide +kernel
theorem dJ13_abs_2_0 : decode cJ13_abs_2 0 = .ok (.lload_n 0, 1) := dk_30 (dk_at dksJ13_abs_2_0 0 rfl rfl)
theorem dJ13_abs_2_1 : decode cJ13_abs_2 1 = .ok (.lconst 0, 1) := dk_9 (dk_at dksJ13_abs_2_0 1 rfl rfl)
theorem dJ13_abs_2_2 : decode cJ13_abs_2 2 = .ok (.lcmp, 1) := dk_148 (dk_at dksJ13_abs_2_0 2 rfl rfl)
theorem dJ13_abs_2_3 : decode cJ13_abs_2 3 = .ok (.ifCond .ge 8, 3) := dk_156 0 8 (dk_at dksJ13_abs_2_0 3 rfl rfl)
theorem dJ13_abs_2_6 : decode cJ13_abs_2 6 = .ok (.lload_n 0, 1) := dk_30 (dk_at dksJ13_abs_2_0 6 rfl rfl)
theorem dJ13_abs_2_7 : decode cJ13_abs_2 7 = .ok (.lneg, 1) := dk_117 (dk_at dksJ13_abs_2_0 7 rfl rfl)
theorem dJ13_abs_2_8 : decode cJ13_abs_2 8 = .ok (.goto 4, 3) := dk_167 0 4 (dk_at dksJ13_abs_2_0 8 rfl rfl)
theorem dJ13_abs_2_11 : decode cJ13_abs_2 11 = .ok (.lload_n 0, 1) := dk_30 (dk_at dksJ13_abs_2_0 11 rfl rfl)
theorem dJ13_abs_2_12 : decode cJ13_abs_2 12 = .ok (.lreturn, 1) := dk_173 (dk_at dksJ13_abs_2_0 12 rfl rfl)
theorem q152 : (Jvm.Cond.initialized "java/lang/Math") ∈ lw_all := lw_g (lw_at lw_m1 21 rfl) rfl
theorem q564 : (Jvm.Cond.static ({ cls := "java/lang/Math", name := "max", desc := "(II)I" } : Jvm.MethodName)) ∈ lw_all := lw_g (lw_at lw_m2 193 rfl) rfl
theorem q565 : (Jvm.Cond.code ({ cls := "java/lang/Math", name := "max", desc := "(II)I" } : Jvm.MethodName) prog_30_method_65_code (2 : Nat) (Option.some Jvm.ClassFile.FieldType.int)) ∈ lw_all := lw_g (lw_at lw_m2 194 rfl) rfl
theorem q577 : (Jvm.Cond.static ({ cls := "java/lang/Math", name := "min", desc := "(II)I" } : Jvm.MethodName)) ∈ lw_all := lw_g (lw_at lw_m2 206 rfl) rfl
theorem q578 : (Jvm.Cond.code ({ cls := "java/lang/Math", name := "min", desc := "(II)I" } : Jvm.MethodName) prog_30_method_69_code (2 : Nat) (Option.some Jvm.ClassFile.FieldType.int)) ∈ lw_all := lw_g (lw_at lw_m2 207 rfl) rfl
theorem q1161 : (Jvm.Cond.static ({ cls := "java/lang/Math", name := "abs", desc := "(I)I" } : Jvm.MethodName)) ∈ lw_all := lw_g (lw_at lw_m5 70 rfl) rfl
theorem q1162 : (Jvm.Cond.code ({ cls := "java/lang/Math", name := "abs", desc := "(I)I" } : Jvm.MethodName) prog_30_method_59_code (1 : Nat) (Option.some Jvm.ClassFile.FieldType.int)) ∈ lw_all := lw_g (lw_at lw_m5 71 rfl) rfl
theorem q1798 : (Jvm.Cond.static ({ cls := "java/lang/Math", name := "max", desc := "(JJ)J" } : Jvm.MethodName)) ∈ lw_all := lw_g (lw_at lw_m7 227 rfl) rfl
theorem q1799 : (Jvm.Cond.code ({ cls := "java/lang/Math", name := "max", desc := "(JJ)J" } : Jvm.MethodName) prog_30_method_66_code (4 : Nat) (Option.some Jvm.ClassFile.FieldType.long)) ∈ lw_all := lw_g (lw_at lw_m7 228 rfl) rfl
theorem q1801 : (Jvm.Cond.static ({ cls := "java/lang/Math", name := "min", desc := "(JJ)J" } : Jvm.MethodName)) ∈ lw_all := lw_g (lw_at lw_m7 230 rfl) rfl
theorem q1802 : (Jvm.Cond.code ({ cls := "java/lang/Math", name := "min", desc := "(JJ)J" } : Jvm.MethodName) prog_30_method_70_code (4 : Nat) (Option.some Jvm.ClassFile.FieldType.long)) ∈ lw_all := lw_g (lw_at lw_m7 231 rfl) rfl
theorem q1822 : (Jvm.Cond.static ({ cls := "java/lang/Math", name := "abs", desc := "(J)J" } : Jvm.MethodName)) ∈ lw_all := lw_g (lw_at lw_m8 11 rfl) rfl
theorem q1823 : (Jvm.Cond.code ({ cls := "java/lang/Math", name := "abs", desc := "(J)J" } : Jvm.MethodName) prog_30_method_61_code (2 : Nat) (Option.some Jvm.ClassFile.FieldType.long)) ∈ lw_all := lw_g (lw_at lw_m8 12 rfl) rfl
/-! java/util/Arrays -/
set_option maxRecDepth 100000
def RJ14 : String := "java/util/Arrays"
abbrev cJ14_copyOf : ByteArray := prog_50_method_124_code
def yJ14_copyOf : MethodName := ⟨RJ14, "copyOf", "([JI)[J"⟩
def dkwJ14_copyOf_1 : List UInt8 := [27, 184, 1, 48, 184, 0, 150, 44, 176]
abbrev dktJ14_copyOf_1 : List UInt8 := dkwJ14_copyOf_1 ++ []
def dkwJ14_copyOf_0 : List UInt8 := [27, 42, 190, 160, 0, 11, 42, 182, 1, 63, 192, 1, 64, 176, 27, 188, 11, 77, 42, 3, 44, 3, 42, 190]
abbrev dktJ14_copyOf_0 : List UInt8 := dkwJ14_copyOf_0 ++ dktJ14_copyOf_1
theorem dksJ14_copyOf_0 : cJ14_copyOf.data.toList.drop 0 = dktJ14_copyOf_0 := by decide +kernel
theorem dksJ14_copyOf_1 : cJ14_copyOf.data.toList.drop 24 = dktJ14_copyOf_1 := dk_seg dksJ14_copyOf_0 24 rfl rfl
theorem dJ14_copyOf_0 : decode cJ14_copyOf 0 = .ok (.iload_n 1, 1) := dk_27 (dk_at dksJ14_copyOf_0 0 rfl rfl)
theorem dJ14_copyOf_1 : decode cJ14_copyOf 1 = .ok (.aload_n 0, 1) := dk_42 (dk_at dksJ14_copyOf_0 1 rfl rfl)
theorem dJ14_copyOf_2 : decode cJ14_copyOf 2 = .ok (.arraylength, 1) := dk_190 (dk_at dksJ14_copyOf_0 2 rfl rfl)
theorem dJ14_copyOf_3 : decode cJ14_copyOf 3 = .ok (.if_icmp .ne 11, 3) := dk_160 0 11 (dk_at dksJ14_copyOf_0 3 rfl rfl)
theorem dJ14_copyOf_6 : decode cJ14_copyOf 6 = .ok (.aload_n 0, 1) := dk_42 (dk_at dksJ14_copyOf_0 6 rfl rfl)
theorem dJ14_copyOf_7 : decode cJ14_copyOf 7 = .ok (.invokevirtual 319, 3) := dk_182 1 63 (dk_at dksJ14_copyOf_0 7 rfl rfl)
theorem dJ14_copyOf_10 : decode cJ14_copyOf 10 = .ok (.checkcast 320, 3) := dk_192 1 64 (dk_at dksJ14_copyOf_0 10 rfl rfl)
theorem dJ14_copyOf_13 : decode cJ14_copyOf 13 = .ok (.areturn, 1) := dk_176 (dk_at dksJ14_copyOf_0 13 rfl rfl)
theorem dJ14_copyOf_14 : decode cJ14_copyOf 14 = .ok (.iload_n 1, 1) := dk_27 (dk_at dksJ14_copyOf_0 14 rfl rfl)
theorem dJ14_copyOf_15 : decode cJ14_copyOf 15 = .ok (.newarray .long, 2) := dk_188_11 (dk_at dksJ14_copyOf_0 15 rfl rfl)
theorem dJ14_copyOf_17 : decode cJ14_copyOf 17 = .ok (.astore_n 2, 1) := dk_77 (dk_at dksJ14_copyOf_0 17 rfl rfl)
theorem dJ14_copyOf_18 : decode cJ14_copyOf 18 = .ok (.aload_n 0, 1) := dk_42 (dk_at dksJ14_copyOf_0 18 rfl rfl)
theorem dJ14_copyOf_19 : decode cJ14_copyOf 19 = .ok (.iconst 0, 1) := dk_3 (dk_at dksJ14_copyOf_0 19 rfl rfl)
theorem dJ14_copyOf_20 : decode cJ14_copyOf 20 = .ok (.aload_n 2, 1) := dk_44 (dk_at dksJ14_copyOf_0 20 rfl rfl)
theorem dJ14_copyOf_21 : decode cJ14_copyOf 21 = .ok (.iconst 0, 1) := dk_3 (dk_at dksJ14_copyOf_0 21 rfl rfl)
theorem dJ14_copyOf_22 : decode cJ14_copyOf 22 = .ok (.aload_n 0, 1) := dk_42 (dk_at dksJ14_copyOf_0 22 rfl rfl)
theorem dJ14_copyOf_23 : decode cJ14_copyOf 23 = .ok (.arraylength, 1) := dk_190 (dk_at dksJ14_copyOf_0 23 rfl rfl)
theorem dJ14_copyOf_24 : decode cJ14_copyOf 24 = .ok (.iload_n 1, 1) := dk_27 (dk_at dksJ14_copyOf_1 0 rfl rfl)
theorem dJ14_copyOf_25 : decode cJ14_copyOf 25 = .ok (.invokestatic 304, 3) := dk_184 1 48 (dk_at dksJ14_copyOf_1 1 rfl rfl)
theorem dJ14_copyOf_28 : decode cJ14_copyOf 28 = .ok (.invokestatic 150, 3) := dk_184 0 150 (dk_at dksJ14_copyOf_1 4 rfl rfl)
theorem dJ14_copyOf_31 : decode cJ14_copyOf 31 = .ok (.aload_n 2, 1) := dk_44 (dk_at dksJ14_copyOf_1 7 rfl rfl)
theorem dJ14_copyOf_32 : decode cJ14_copyOf 32 = .ok (.areturn, 1) := dk_176 (dk_at dksJ14_copyOf_1 8 rfl rfl)
abbrev cJ14_copyOf_2 : ByteArray := prog_50_method_119_code
def yJ14_copyOf_2 : MethodName := ⟨RJ14, "copyOf", "([Ljava/lang/Object;I)[Ljava/lang/Object;"⟩
def dkwJ14_copyOf_2_0 : List UInt8 := [42, 27, 42, 182, 0, 86, 184, 1, 44, 176]
abbrev dktJ14_copyOf_2_0 : List UInt8 := dkwJ14_copyOf_2_0 ++ []
theorem dksJ14_copyOf_2_0 : cJ14_copyOf_2.data.toList.drop 0 = dktJ14_copyOf_2_0 := by decide +kernel
theorem dJ14_copyOf_2_0 : decode cJ14_copyOf_2 0 = .ok (.aload_n 0, 1) := dk_42 (dk_at dksJ14_copyOf_2_0 0 rfl rfl)
theorem dJ14_copyOf_2_1 : decode cJ14_copyOf_2 1 = .ok (.iload_n 1, 1) := dk_27 (dk_at dksJ14_copyOf_2_0 1 rfl rfl)
theorem dJ14_copyOf_2_2 : decode cJ14_copyOf_2 2 = .ok (.aload_n 0, 1) := dk_42 (dk_at dksJ14_copyOf_2_0 2 rfl rfl)
theorem dJ14_copyOf_2_3 : decode cJ14_copyOf_2 3 = .ok (.invokevirtual 86, 3) := dk_182 0 86 (dk_at dksJ14_copyOf_2_0 3 rfl rfl)
theorem dJ14_copyOf_2_6 : decode cJ14_copyOf_2 6 = .ok (.invokestatic 300, 3) := dk_184 1 44 (dk_at dksJ14_copyOf_2_0 6 rfl rfl)
theorem dJ14_copyOf_2_9 : decode cJ14_copyOf_2 9 = .ok (.areturn, 1) := dk_176 (dk_at dksJ14_copyOf_2_0 9 rfl rfl)
abbrev cJ14_copyOf_3 : ByteArray := prog_50_method_120_code
def yJ14_copyOf_3 : MethodName := ⟨RJ14, "copyOf", "([Ljava/lang/Object;ILjava/lang/Class;)[Ljava/lang/Object;"⟩
def dkwJ14_copyOf_3_1 : List UInt8 := [78, 42, 3, 45, 3, 42, 190, 27, 184, 1, 48, 184, 0, 150, 45, 176]
abbrev dktJ14_copyOf_3_1 : List UInt8 := dkwJ14_copyOf_3_1 ++ []
def dkwJ14_copyOf_3_0 : List UInt8 := [44, 18, 110, 166, 0, 10, 27, 189, 0, 2, 167, 0, 14, 44, 182, 0, 90, 27, 184, 0, 95, 192, 0, 110]
abbrev dktJ14_copyOf_3_0 : List UInt8 := dkwJ14_copyOf_3_0 ++ dktJ14_copyOf_3_1
theorem dksJ14_copyOf_3_0 : cJ14_copyOf_3.data.toList.drop 0 = dktJ14_copyOf_3_0 := by decide +kernel
theorem dksJ14_copyOf_3_1 : cJ14_copyOf_3.data.toList.drop 24 = dktJ14_copyOf_3_1 := dk_seg dksJ14_copyOf_3_0 24 rfl rfl
theorem dJ14_copyOf_3_0 : decode cJ14_copyOf_3 0 = .ok (.aload_n 2, 1) := dk_44 (dk_at dksJ14_copyOf_3_0 0 rfl rfl)
theorem dJ14_copyOf_3_1 : decode cJ14_copyOf_3 1 = .ok (.ldc 110, 2) := dk_18 110 (dk_at dksJ14_copyOf_3_0 1 rfl rfl)
theorem dJ14_copyOf_3_3 : decode cJ14_copyOf_3 3 = .ok (.if_acmp .ne 10, 3) := dk_166 0 10 (dk_at dksJ14_copyOf_3_0 3 rfl rfl)
theorem dJ14_copyOf_3_6 : decode cJ14_copyOf_3 6 = .ok (.iload_n 1, 1) := dk_27 (dk_at dksJ14_copyOf_3_0 6 rfl rfl)
theorem dJ14_copyOf_3_7 : decode cJ14_copyOf_3 7 = .ok (.anewarray 2, 3) := dk_189 0 2 (dk_at dksJ14_copyOf_3_0 7 rfl rfl)
theorem dJ14_copyOf_3_10 : decode cJ14_copyOf_3 10 = .ok (.goto 14, 3) := dk_167 0 14 (dk_at dksJ14_copyOf_3_0 10 rfl rfl)
theorem dJ14_copyOf_3_13 : decode cJ14_copyOf_3 13 = .ok (.aload_n 2, 1) := dk_44 (dk_at dksJ14_copyOf_3_0 13 rfl rfl)
theorem dJ14_copyOf_3_14 : decode cJ14_copyOf_3 14 = .ok (.invokevirtual 90, 3) := dk_182 0 90 (dk_at dksJ14_copyOf_3_0 14 rfl rfl)
theorem dJ14_copyOf_3_17 : decode cJ14_copyOf_3 17 = .ok (.iload_n 1, 1) := dk_27 (dk_at dksJ14_copyOf_3_0 17 rfl rfl)
theorem dJ14_copyOf_3_18 : decode cJ14_copyOf_3 18 = .ok (.invokestatic 95, 3) := dk_184 0 95 (dk_at dksJ14_copyOf_3_0 18 rfl rfl)
theorem dJ14_copyOf_3_21 : decode cJ14_copyOf_3 21 = .ok (.checkcast 110, 3) := dk_192 0 110 (dk_at dksJ14_copyOf_3_0 21 rfl rfl)
theorem dJ14_copyOf_3_24 : decode cJ14_copyOf_3 24 = .ok (.astore_n 3, 1) := dk_78 (dk_at dksJ14_copyOf_3_1 0 rfl rfl)
theorem dJ14_copyOf_3_25 : decode cJ14_copyOf_3 25 = .ok (.aload_n 0, 1) := dk_42 (dk_at dksJ14_copyOf_3_1 1 rfl rfl)
theorem dJ14_copyOf_3_26 : decode cJ14_copyOf_3 26 = .ok (.iconst 0, 1) := dk_3 (dk_at dksJ14_copyOf_3_1 2 rfl rfl)
theorem dJ14_copyOf_3_27 : decode cJ14_copyOf_3 27 = .ok (.aload_n 3, 1) := dk_45 (dk_at dksJ14_copyOf_3_1 3 rfl rfl)
theorem dJ14_copyOf_3_28 : decode cJ14_copyOf_3 28 = .ok (.iconst 0, 1) := dk_3 (dk_at dksJ14_copyOf_3_1 4 rfl rfl)
theorem dJ14_copyOf_3_29 : decode cJ14_copyOf_3 29 = .ok (.aload_n 0, 1) := dk_42 (dk_at dksJ14_copyOf_3_1 5 rfl rfl)
theorem dJ14_copyOf_3_30 : decode cJ14_copyOf_3 30 = .ok (.arraylength, 1) := dk_190 (dk_at dksJ14_copyOf_3_1 6 rfl rfl)
theorem dJ14_copyOf_3_31 : decode cJ14_copyOf_3 31 = .ok (.iload_n 1, 1) := dk_27 (dk_at dksJ14_copyOf_3_1 7 rfl rfl)
theorem dJ14_copyOf_3_32 : decode cJ14_copyOf_3 32 = .ok (.invokestatic 304, 3) := dk_184 1 48 (dk_at dksJ14_copyOf_3_1 8 rfl rfl)
theorem dJ14_copyOf_3_35 : decode cJ14_copyOf_3 35 = .ok (.invokestatic 150, 3) := dk_184 0 150 (dk_at dksJ14_copyOf_3_1 11 rfl rfl)
theorem dJ14_copyOf_3_38 : decode cJ14_copyOf_3 38 = .ok (.aload_n 3, 1) := dk_45 (dk_at dksJ14_copyOf_3_1 14 rfl rfl)
theorem dJ14_copyOf_3_39 : decode cJ14_copyOf_3 39 = .ok (.areturn, 1) := dk_176 (dk_at dksJ14_copyOf_3_1 15 rfl rfl)
abbrev cJ14_copyOf_4 : ByteArray := prog_50_method_121_code
def yJ14_copyOf_4 : MethodName := ⟨RJ14, "copyOf", "([BI)[B"⟩
def dkwJ14_copyOf_4_1 : List UInt8 := [27, 184, 1, 48, 184, 0, 150, 44, 176]
abbrev dktJ14_copyOf_4_1 : List UInt8 := dkwJ14_copyOf_4_1 ++ []
def dkwJ14_copyOf_4_0 : List UInt8 := [27, 42, 190, 160, 0, 11, 42, 182, 1, 54, 192, 1, 55, 176, 27, 188, 8, 77, 42, 3, 44, 3, 42, 190]
abbrev dktJ14_copyOf_4_0 : List UInt8 := dkwJ14_copyOf_4_0 ++ dktJ14_copyOf_4_1
theorem dksJ14_copyOf_4_0 : cJ14_copyOf_4.data.toList.drop 0 = dktJ14_copyOf_4_0 := by decide +kernel
theorem dksJ14_copyOf_4_1 : cJ14_copyOf_4.data.toList.drop 24 = dktJ14_copyOf_4_1 := dk_seg dksJ14_copyOf_4_0 24 rfl rfl
theorem dJ14_copyOf_4_0 : decode cJ14_copyOf_4 0 = .ok (.iload_n 1, 1) := dk_27 (dk_at dksJ14_copyOf_4_0 0 rfl rfl)
theorem dJ14_copyOf_4_1 : decode cJ14_copyOf_4 1 = .ok (.aload_n 0, 1) := dk_42 (dk_at dksJ14_copyOf_4_0 1 rfl rfl)
theorem dJ14_copyOf_4_2 : decode cJ14_copyOf_4 2 = .ok (.arraylength, 1) := dk_190 (dk_at dksJ14_copyOf_4_0 2 rfl rfl)
theorem dJ14_copyOf_4_3 : decode cJ14_copyOf_4 3 = .ok (.if_icmp .ne 11, 3) := dk_160 0 11 (dk_at dksJ14_copyOf_4_0 3 rfl rfl)
theorem dJ14_copyOf_4_6 : decode cJ14_copyOf_4 6 = .ok (.aload_n 0, 1) := dk_42 (dk_at dksJ14_copyOf_4_0 6 rfl rfl)
theorem dJ14_copyOf_4_7 : decode cJ14_copyOf_4 7 = .ok (.invokevirtual 310, 3) := dk_182 1 54 (dk_at dksJ14_copyOf_4_0 7 rfl rfl)
theorem dJ14_copyOf_4_10 : decode cJ14_copyOf_4 10 = .ok (.checkcast 311, 3) := dk_192 1 55 (dk_at dksJ14_copyOf_4_0 10 rfl rfl)
theorem dJ14_copyOf_4_13 : decode cJ14_copyOf_4 13 = .ok (.areturn, 1) := dk_176 (dk_at dksJ14_copyOf_4_0 13 rfl rfl)
theorem dJ14_copyOf_4_14 : decode cJ14_copyOf_4 14 = .ok (.iload_n 1, 1) := dk_27 (dk_at dksJ14_copyOf_4_0 14 rfl rfl)
theorem dJ14_copyOf_4_15 : decode cJ14_copyOf_4 15 = .ok (.newarray .byte, 2) := dk_188_8 (dk_at dksJ14_copyOf_4_0 15 rfl rfl)
theorem dJ14_copyOf_4_17 : decode cJ14_copyOf_4 17 = .ok (.astore_n 2, 1) := dk_77 (dk_at dksJ14_copyOf_4_0 17 rfl rfl)
theorem dJ14_copyOf_4_18 : decode cJ14_copyOf_4 18 = .ok (.aload_n 0, 1) := dk_42 (dk_at dksJ14_copyOf_4_0 18 rfl rfl)
theorem dJ14_copyOf_4_19 : decode cJ14_copyOf_4 19 = .ok (.iconst 0, 1) := dk_3 (dk_at dksJ14_copyOf_4_0 19 rfl rfl)
theorem dJ14_copyOf_4_20 : decode cJ14_copyOf_4 20 = .ok (.aload_n 2, 1) := dk_44 (dk_at dksJ14_copyOf_4_0 20 rfl rfl)
theorem dJ14_copyOf_4_21 : decode cJ14_copyOf_4 21 = .ok (.iconst 0, 1) := dk_3 (dk_at dksJ14_copyOf_4_0 21 rfl rfl)
theorem dJ14_copyOf_4_22 : decode cJ14_copyOf_4 22 = .ok (.aload_n 0, 1) := dk_42 (dk_at dksJ14_copyOf_4_0 22 rfl rfl)
theorem dJ14_copyOf_4_23 : decode cJ14_copyOf_4 23 = .ok (.arraylength, 1) := dk_190 (dk_at dksJ14_copyOf_4_0 23 rfl rfl)
theorem dJ14_copyOf_4_24 : decode cJ14_copyOf_4 24 = .ok (.iload_n 1, 1) := dk_27 (dk_at dksJ14_copyOf_4_1 0 rfl rfl)
theorem dJ14_copyOf_4_25 : decode cJ14_copyOf_4 25 = .ok (.invokestatic 304, 3) := dk_184 1 48 (dk_at dksJ14_copyOf_4_1 1 rfl rfl)
theorem dJ14_copyOf_4_28 : decode cJ14_copyOf_4 28 = .ok (.invokestatic 150, 3) := dk_184 0 150 (dk_at dksJ14_copyOf_4_1 4 rfl rfl)
theorem dJ14_copyOf_4_31 : decode cJ14_copyOf_4 31 = .ok (.aload_n 2, 1) := dk_44 (dk_at dksJ14_copyOf_4_1 7 rfl rfl)
theorem dJ14_copyOf_4_32 : decode cJ14_copyOf_4 32 = .ok (.areturn, 1) := dk_176 (dk_at dksJ14_copyOf_4_1 8 rfl rfl)
abbrev cJ14_copyOfRange : ByteArray := prog_50_method_132_code
def yJ14_copyOfRange : MethodName := ⟨RJ14, "copyOfRange", "([BII)[B"⟩
def dkwJ14_copyOfRange_1 : List UInt8 := [176]
abbrev dktJ14_copyOfRange_1 : List UInt8 := dkwJ14_copyOfRange_1 ++ []
def dkwJ14_copyOfRange_0 : List UInt8 := [27, 154, 0, 9, 28, 42, 190, 159, 0, 10, 42, 27, 28, 184, 1, 83, 176, 42, 182, 1, 54, 192, 1, 55]
abbrev dktJ14_copyOfRange_0 : List UInt8 := dkwJ14_copyOfRange_0 ++ dktJ14_copyOfRange_1
theorem dksJ14_copyOfRange_0 : cJ14_copyOfRange.data.toList.drop 0 = dktJ14_copyOfRange_0 := by decide +kernel
theorem dksJ14_copyOfRange_1 : cJ14_copyOfRange.data.toList.drop 24 = dktJ14_copyOfRange_1 := dk_seg dksJ14_copyOfRange_0 24 rfl rfl
theorem dJ14_copyOfRange_0 : decode cJ14_copyOfRange 0 = .ok (.iload_n 1, 1) := dk_27 (dk_at dksJ14_copyOfRange_0 0 rfl rfl)
theorem dJ14_copyOfRange_1 : decode cJ14_copyOfRange 1 = .ok (.ifCond .ne 9, 3) := dk_154 0 9 (dk_at dksJ14_copyOfRange_0 1 rfl rfl)
theorem dJ14_copyOfRange_4 : decode cJ14_copyOfRange 4 = .ok (.iload_n 2, 1) := dk_28 (dk_at dksJ14_copyOfRange_0 4 rfl rfl)
theorem dJ14_copyOfRange_5 : decode cJ14_copyOfRange 5 = .ok (.aload_n 0, 1) := dk_42 (dk_at dksJ14_copyOfRange_0 5 rfl rfl)
theorem dJ14_copyOfRange_6 : decode cJ14_copyOfRange 6 = .ok (.arraylength, 1) := dk_190 (dk_at dksJ14_copyOfRange_0 6 rfl rfl)
theorem dJ14_copyOfRange_7 : decode cJ14_copyOfRange 7 = .ok (.if_icmp .eq 10, 3) := dk_159 0 10 (dk_at dksJ14_copyOfRange_0 7 rfl rfl)
theorem dJ14_copyOfRange_10 : decode cJ14_copyOfRange 10 = .ok (.aload_n 0, 1) := dk_42 (dk_at dksJ14_copyOfRange_0 10 rfl rfl)
theorem dJ14_copyOfRange_11 : decode cJ14_copyOfRange 11 = .ok (.iload_n 1, 1) := dk_27 (dk_at dksJ14_copyOfRange_0 11 rfl rfl)
theorem dJ14_copyOfRange_12 : decode cJ14_copyOfRange 12 = .ok (.iload_n 2, 1) := dk_28 (dk_at dksJ14_copyOfRange_0 12 rfl rfl)
theorem dJ14_copyOfRange_13 : decode cJ14_copyOfRange 13 = .ok (.invokestatic 339, 3) := dk_184 1 83 (dk_at dksJ14_copyOfRange_0 13 rfl rfl)
theorem dJ14_copyOfRange_16 : decode cJ14_copyOfRange 16 = .ok (.areturn, 1) := dk_176 (dk_at dksJ14_copyOfRange_0 16 rfl rfl)
theorem dJ14_copyOfRange_17 : decode cJ14_copyOfRange 17 = .ok (.aload_n 0, 1) := dk_42 (dk_at dksJ14_copyOfRange_0 17 rfl rfl)
theorem dJ14_copyOfRange_18 : decode cJ14_copyOfRange 18 = .ok (.invokevirtual 310, 3) := dk_182 1 54 (dk_at dksJ14_copyOfRange_0 18 rfl rfl)
theorem dJ14_copyOfRange_21 : decode cJ14_copyOfRange 21 = .ok (.checkcast 311, 3) := dk_192 1 55 (dk_at dksJ14_copyOfRange_0 21 rfl rfl)
theorem dJ14_copyOfRange_24 : decode cJ14_copyOfRange 24 = .ok (.areturn, 1) := dk_176 (dk_at dksJ14_copyOfRange_1 0 rfl rfl)
abbrev cJ14_copyOfRangeByte : ByteArray := prog_50_method_133_code
def yJ14_copyOfRangeByte : MethodName := ⟨RJ14, "copyOfRangeByte", "([BII)[B"⟩
def dkwJ14_copyOfRangeByte_1 : List UInt8 := [184, 1, 48, 184, 0, 150, 25, 4, 176]
abbrev dktJ14_copyOfRangeByte_1 : List UInt8 := dkwJ14_copyOfRangeByte_1 ++ []
def dkwJ14_copyOfRangeByte_0 : List UInt8 := [27, 28, 184, 1, 87, 28, 27, 100, 62, 29, 188, 8, 58, 4, 42, 27, 25, 4, 3, 42, 190, 27, 100, 29]
abbrev dktJ14_copyOfRangeByte_0 : List UInt8 := dkwJ14_copyOfRangeByte_0 ++ dktJ14_copyOfRangeByte_1
theorem dksJ14_copyOfRangeByte_0 : cJ14_copyOfRangeByte.data.toList.drop 0 = dktJ14_copyOfRangeByte_0 := by decide +kernel
theorem dksJ14_copyOfRangeByte_1 : cJ14_copyOfRangeByte.data.toList.drop 24 = dktJ14_copyOfRangeByte_1 := dk_seg dksJ14_copyOfRangeByte_0 24 rfl rfl
theorem dJ14_copyOfRangeByte_0 : decode cJ14_copyOfRangeByte 0 = .ok (.iload_n 1, 1) := dk_27 (dk_at dksJ14_copyOfRangeByte_0 0 rfl rfl)
theorem dJ14_copyOfRangeByte_1 : decode cJ14_copyOfRangeByte 1 = .ok (.iload_n 2, 1) := dk_28 (dk_at dksJ14_copyOfRangeByte_0 1 rfl rfl)
theorem dJ14_copyOfRangeByte_2 : decode cJ14_copyOfRangeByte 2 = .ok (.invokestatic 343, 3) := dk_184 1 87 (dk_at dksJ14_copyOfRangeByte_0 2 rfl rfl)
theorem dJ14_copyOfRangeByte_5 : decode cJ14_copyOfRangeByte 5 = .ok (.iload_n 2, 1) := dk_28 (dk_at dksJ14_copyOfRangeByte_0 5 rfl rfl)
theorem dJ14_copyOfRangeByte_6 : decode cJ14_copyOfRangeByte 6 = .ok (.iload_n 1, 1) := dk_27 (dk_at dksJ14_copyOfRangeByte_0 6 rfl rfl)
theorem dJ14_copyOfRangeByte_7 : decode cJ14_copyOfRangeByte 7 = .ok (.isub, 1) := dk_100 (dk_at dksJ14_copyOfRangeByte_0 7 rfl rfl)
theorem dJ14_copyOfRangeByte_8 : decode cJ14_copyOfRangeByte 8 = .ok (.istore_n 3, 1) := dk_62 (dk_at dksJ14_copyOfRangeByte_0 8 rfl rfl)
theorem dJ14_copyOfRangeByte_9 : decode cJ14_copyOfRangeByte 9 = .ok (.iload_n 3, 1) := dk_29 (dk_at dksJ14_copyOfRangeByte_0 9 rfl rfl)
theorem dJ14_copyOfRangeByte_10 : decode cJ14_copyOfRangeByte 10 = .ok (.newarray .byte, 2) := dk_188_8 (dk_at dksJ14_copyOfRangeByte_0 10 rfl rfl)
theorem dJ14_copyOfRangeByte_12 : decode cJ14_copyOfRangeByte 12 = .ok (.astore 4, 2) := dk_58 4 (dk_at dksJ14_copyOfRangeByte_0 12 rfl rfl)
theorem dJ14_copyOfRangeByte_14 : decode cJ14_copyOfRangeByte 14 = .ok (.aload_n 0, 1) := dk_42 (dk_at dksJ14_copyOfRangeByte_0 14 rfl rfl)
theorem dJ14_copyOfRangeByte_15 : decode cJ14_copyOfRangeByte 15 = .ok (.iload_n 1, 1) := dk_27 (dk_at dksJ14_copyOfRangeByte_0 15 rfl rfl)
theorem dJ14_copyOfRangeByte_16 : decode cJ14_copyOfRangeByte 16 = .ok (.aload 4, 2) := dk_25 4 (dk_at dksJ14_copyOfRangeByte_0 16 rfl rfl)
theorem dJ14_copyOfRangeByte_18 : decode cJ14_copyOfRangeByte 18 = .ok (.iconst 0, 1) := dk_3 (dk_at dksJ14_copyOfRangeByte_0 18 rfl rfl)
theorem dJ14_copyOfRangeByte_19 : decode cJ14_copyOfRangeByte 19 = .ok (.aload_n 0, 1) := dk_42 (dk_at dksJ14_copyOfRangeByte_0 19 rfl rfl)
theorem dJ14_copyOfRangeByte_20 : decode cJ14_copyOfRangeByte 20 = .ok (.arraylength, 1) := dk_190 (dk_at dksJ14_copyOfRangeByte_0 20 rfl rfl)
theorem dJ14_copyOfRangeByte_21 : decode cJ14_copyOfRangeByte 21 = .ok (.iload_n 1, 1) := dk_27 (dk_at dksJ14_copyOfRangeByte_0 21 rfl rfl)
theorem dJ14_copyOfRangeByte_22 : decode cJ14_copyOfRangeByte 22 = .ok (.isub, 1) := dk_100 (dk_at dksJ14_copyOfRangeByte_0 22 rfl rfl)
theorem dJ14_copyOfRangeByte_23 : decode cJ14_copyOfRangeByte 23 = .ok (.iload_n 3, 1) := dk_29 (dk_at dksJ14_copyOfRangeByte_0 23 rfl rfl)
theorem dJ14_copyOfRangeByte_24 : decode cJ14_copyOfRangeByte 24 = .ok (.invokestatic 304, 3) := dk_184 1 48 (dk_at dksJ14_copyOfRangeByte_1 0 rfl rfl)
theorem dJ14_copyOfRangeByte_27 : decode cJ14_copyOfRangeByte 27 = .ok (.invokestatic 150, 3) := dk_184 0 150 (dk_at dksJ14_copyOfRangeByte_1 3 rfl rfl)
theorem dJ14_copyOfRangeByte_30 : decode cJ14_copyOfRangeByte 30 = .ok (.aload 4, 2) := dk_25 4 (dk_at dksJ14_copyOfRangeByte_1 6 rfl rfl)
theorem dJ14_copyOfRangeByte_32 : decode cJ14_copyOfRangeByte 32 = .ok (.areturn, 1) := dk_176 (dk_at dksJ14_copyOfRangeByte_1 8 rfl rfl)
abbrev cJ14_checkLength : ByteArray := prog_50_method_131_code
def yJ14_checkLength : MethodName := ⟨RJ14, "checkLength", "(II)V"⟩
def dkwJ14_checkLength_1 : List UInt8 := [182, 0, 50, 27, 182, 0, 54, 182, 0, 61, 183, 0, 65, 191, 177]
abbrev dktJ14_checkLength_1 : List UInt8 := dkwJ14_checkLength_1 ++ []
def dkwJ14_checkLength_0 : List UInt8 := [27, 26, 162, 0, 35, 187, 0, 43, 89, 187, 0, 45, 89, 183, 0, 47, 26, 182, 0, 54, 19, 1, 81]
abbrev dktJ14_checkLength_0 : List UInt8 := dkwJ14_checkLength_0 ++ dktJ14_checkLength_1
theorem dksJ14_checkLength_0 : cJ14_checkLength.data.toList.drop 0 = dktJ14_checkLength_0 := by decide +kernel
theorem dksJ14_checkLength_1 : cJ14_checkLength.data.toList.drop 23 = dktJ14_checkLength_1 := dk_seg dksJ14_checkLength_0 23 rfl rfl
theorem dJ14_checkLength_0 : decode cJ14_checkLength 0 = .ok (.iload_n 1, 1) := dk_27 (dk_at dksJ14_checkLength_0 0 rfl rfl)
theorem dJ14_checkLength_1 : decode cJ14_checkLength 1 = .ok (.iload_n 0, 1) := dk_26 (dk_at dksJ14_checkLength_0 1 rfl rfl)
theorem dJ14_checkLength_2 : decode cJ14_checkLength 2 = .ok (.if_icmp .ge 35, 3) := dk_162 0 35 (dk_at dksJ14_checkLength_0 2 rfl rfl)
theorem dJ14_checkLength_5 : decode cJ14_checkLength 5 = .ok (.new 43, 3) := dk_187 0 43 (dk_at dksJ14_checkLength_0 5 rfl rfl)
theorem dJ14_checkLength_8 : decode cJ14_checkLength 8 = .ok (.dup, 1) := dk_89 (dk_at dksJ14_checkLength_0 8 rfl rfl)
theorem dJ14_checkLength_9 : decode cJ14_checkLength 9 = .ok (.new 45, 3) := dk_187 0 45 (dk_at dksJ14_checkLength_0 9 rfl rfl)
theorem dJ14_checkLength_12 : decode cJ14_checkLength 12 = .ok (.dup, 1) := dk_89 (dk_at dksJ14_checkLength_0 12 rfl rfl)
theorem dJ14_checkLength_13 : decode cJ14_checkLength 13 = .ok (.invokespecial 47, 3) := dk_183 0 47 (dk_at dksJ14_checkLength_0 13 rfl rfl)
theorem dJ14_checkLength_16 : decode cJ14_checkLength 16 = .ok (.iload_n 0, 1) := dk_26 (dk_at dksJ14_checkLength_0 16 rfl rfl)
theorem dJ14_checkLength_17 : decode cJ14_checkLength 17 = .ok (.invokevirtual 54, 3) := dk_182 0 54 (dk_at dksJ14_checkLength_0 17 rfl rfl)
theorem dJ14_checkLength_20 : decode cJ14_checkLength 20 = .ok (.ldc_w 337, 3) := dk_19 1 81 (dk_at dksJ14_checkLength_0 20 rfl rfl)
theorem dJ14_checkLength_23 : decode cJ14_checkLength 23 = .ok (.invokevirtual 50, 3) := dk_182 0 50 (dk_at dksJ14_checkLength_1 0 rfl rfl)
theorem dJ14_checkLength_26 : decode cJ14_checkLength 26 = .ok (.iload_n 1, 1) := dk_27 (dk_at dksJ14_checkLength_1 3 rfl rfl)
theorem dJ14_checkLength_27 : decode cJ14_checkLength 27 = .ok (.invokevirtual 54, 3) := dk_182 0 54 (dk_at dksJ14_checkLength_1 4 rfl rfl)
theorem dJ14_checkLength_30 : decode cJ14_checkLength 30 = .ok (.invokevirtual 61, 3) := dk_182 0 61 (dk_at dksJ14_checkLength_1 7 rfl rfl)
theorem dJ14_checkLength_33 : decode cJ14_checkLength 33 = .ok (.invokespecial 65, 3) := dk_183 0 65 (dk_at dksJ14_checkLength_1 10 rfl rfl)
theorem dJ14_checkLength_36 : decode cJ14_checkLength 36 = .ok (.athrow, 1) := dk_191 (dk_at dksJ14_checkLength_1 13 rfl rfl)
theorem dJ14_checkLength_37 : decode cJ14_checkLength 37 = .ok (.return_, 1) := dk_177 (dk_at dksJ14_checkLength_1 14 rfl rfl)
abbrev cJ14_fill : ByteArray := prog_50_method_110_code
def yJ14_fill : MethodName := ⟨RJ14, "fill", "([BIIB)V"⟩
def dkwJ14_fill_1 : List UInt8 := [167, 255, 242, 177]
abbrev dktJ14_fill_1 : List UInt8 := dkwJ14_fill_1 ++ []
def dkwJ14_fill_0 : List UInt8 := [42, 190, 27, 28, 184, 0, 13, 27, 54, 4, 21, 4, 28, 162, 0, 14, 42, 21, 4, 29, 84, 132, 4, 1]
abbrev dktJ14_fill_0 : List UInt8 := dkwJ14_fill_0 ++ dktJ14_fill_1
theorem dksJ14_fill_0 : cJ14_fill.data.toList.drop 0 = dktJ14_fill_0 := by decide +kernel
theorem dksJ14_fill_1 : cJ14_fill.data.toList.drop 24 = dktJ14_fill_1 := dk_seg dksJ14_fill_0 24 rfl rfl
theorem dJ14_fill_0 : decode cJ14_fill 0 = .ok (.aload_n 0, 1) := dk_42 (dk_at dksJ14_fill_0 0 rfl rfl)
theorem dJ14_fill_1 : decode cJ14_fill 1 = .ok (.arraylength, 1) := dk_190 (dk_at dksJ14_fill_0 1 rfl rfl)
theorem dJ14_fill_2 : decode cJ14_fill 2 = .ok (.iload_n 1, 1) := dk_27 (dk_at dksJ14_fill_0 2 rfl rfl)
theorem dJ14_fill_3 : decode cJ14_fill 3 = .ok (.iload_n 2, 1) := dk_28 (dk_at dksJ14_fill_0 3 rfl rfl)
theorem dJ14_fill_4 : decode cJ14_fill 4 = .ok (.invokestatic 13, 3) := dk_184 0 13 (dk_at dksJ14_fill_0 4 rfl rfl)
theorem dJ14_fill_7 : decode cJ14_fill 7 = .ok (.iload_n 1, 1) := dk_27 (dk_at dksJ14_fill_0 7 rfl rfl)
theorem dJ14_fill_8 : decode cJ14_fill 8 = .ok (.istore 4, 2) := dk_54 4 (dk_at dksJ14_fill_0 8 rfl rfl)
theorem dJ14_fill_10 : decode cJ14_fill 10 = .ok (.iload 4, 2) := dk_21 4 (dk_at dksJ14_fill_0 10 rfl rfl)
theorem dJ14_fill_12 : decode cJ14_fill 12 = .ok (.iload_n 2, 1) := dk_28 (dk_at dksJ14_fill_0 12 rfl rfl)
theorem dJ14_fill_13 : decode cJ14_fill 13 = .ok (.if_icmp .ge 14, 3) := dk_162 0 14 (dk_at dksJ14_fill_0 13 rfl rfl)
theorem dJ14_fill_16 : decode cJ14_fill 16 = .ok (.aload_n 0, 1) := dk_42 (dk_at dksJ14_fill_0 16 rfl rfl)
theorem dJ14_fill_17 : decode cJ14_fill 17 = .ok (.iload 4, 2) := dk_21 4 (dk_at dksJ14_fill_0 17 rfl rfl)
theorem dJ14_fill_19 : decode cJ14_fill 19 = .ok (.iload_n 3, 1) := dk_29 (dk_at dksJ14_fill_0 19 rfl rfl)
theorem dJ14_fill_20 : decode cJ14_fill 20 = .ok (.bastore, 1) := dk_84 (dk_at dksJ14_fill_0 20 rfl rfl)
theorem dJ14_fill_21 : decode cJ14_fill 21 = .ok (.iinc 4 1, 3) := dk_132 4 1 (dk_at dksJ14_fill_0 21 rfl rfl)
theorem dJ14_fill_24 : decode cJ14_fill 24 = .ok (.goto (-14), 3) := dk_167 255 242 (dk_at dksJ14_fill_1 0 rfl rfl)
theorem dJ14_fill_27 : decode cJ14_fill 27 = .ok (.return_, 1) := dk_177 (dk_at dksJ14_fill_1 3 rfl rfl)
abbrev cJ14_rangeCheck : ByteArray := prog_50_method_30_code
def yJ14_rangeCheck : MethodName := ⟨RJ14, "rangeCheck", "(III)V"⟩
def dkwJ14_rangeCheck_3 : List UInt8 := [183, 0, 70, 191, 177]
abbrev dktJ14_rangeCheck_3 : List UInt8 := dkwJ14_rangeCheck_3 ++ []
def dkwJ14_rangeCheck_2 : List UInt8 := [27, 156, 0, 12, 187, 0, 68, 89, 27, 183, 0, 70, 191, 28, 26, 164, 0, 12, 187, 0, 68, 89, 28]
abbrev dktJ14_rangeCheck_2 : List UInt8 := dkwJ14_rangeCheck_2 ++ dktJ14_rangeCheck_3
def dkwJ14_rangeCheck_1 : List UInt8 := [182, 0, 54, 18, 57, 182, 0, 50, 28, 182, 0, 54, 18, 59, 182, 0, 50, 182, 0, 61, 183, 0, 65, 191]
abbrev dktJ14_rangeCheck_1 : List UInt8 := dkwJ14_rangeCheck_1 ++ dktJ14_rangeCheck_2
def dkwJ14_rangeCheck_0 : List UInt8 := [27, 28, 164, 0, 44, 187, 0, 43, 89, 187, 0, 45, 89, 183, 0, 47, 18, 48, 182, 0, 50, 27]
abbrev dktJ14_rangeCheck_0 : List UInt8 := dkwJ14_rangeCheck_0 ++ dktJ14_rangeCheck_1
theorem dksJ14_rangeCheck_0 : cJ14_rangeCheck.data.toList.drop 0 = dktJ14_rangeCheck_0 := by decide +kernel
theorem dksJ14_rangeCheck_1 : cJ14_rangeCheck.data.toList.drop 22 = dktJ14_rangeCheck_1 := dk_seg dksJ14_rangeCheck_0 22 rfl rfl
theorem dksJ14_rangeCheck_2 : cJ14_rangeCheck.data.toList.drop 46 = dktJ14_rangeCheck_2 := dk_seg dksJ14_rangeCheck_1 24 rfl rfl
theorem dksJ14_rangeCheck_3 : cJ14_rangeCheck.data.toList.drop 69 = dktJ14_rangeCheck_3 := dk_seg dksJ14_rangeCheck_2 23 rfl rfl
theorem dJ14_rangeCheck_0 : decode cJ14_rangeCheck 0 = .ok (.iload_n 1, 1) := dk_27 (dk_at dksJ14_rangeCheck_0 0 rfl rfl)
theorem dJ14_rangeCheck_1 : decode cJ14_rangeCheck 1 = .ok (.iload_n 2, 1) := dk_28 (dk_at dksJ14_rangeCheck_0 1 rfl rfl)
theorem dJ14_rangeCheck_2 : decode cJ14_rangeCheck 2 = .ok (.if_icmp .le 44, 3) := dk_164 0 44 (dk_at dksJ14_rangeCheck_0 2 rfl rfl)
theorem dJ14_rangeCheck_5 : decode cJ14_rangeCheck 5 = .ok (.new 43, 3) := dk_187 0 43 (dk_at dksJ14_rangeCheck_0 5 rfl rfl)
theorem dJ14_rangeCheck_8 : decode cJ14_rangeCheck 8 = .ok (.dup, 1) := dk_89 (dk_at dksJ14_rangeCheck_0 8 rfl rfl)
theorem dJ14_rangeCheck_9 : decode cJ14_rangeCheck 9 = .ok (.new 45, 3) := dk_187 0 45 (dk_at dksJ14_rangeCheck_0 9 rfl rfl)
theorem dJ14_rangeCheck_12 : decode cJ14_rangeCheck 12 = .ok (.dup, 1) := dk_89 (dk_at dksJ14_rangeCheck_0 12 rfl rfl)
theorem dJ14_rangeCheck_13 : decode cJ14_rangeCheck 13 = .ok (.invokespecial 47, 3) := dk_183 0 47 (dk_at dksJ14_rangeCheck_0 13 rfl rfl)
theorem dJ14_rangeCheck_16 : decode cJ14_rangeCheck 16 = .ok (.ldc 48, 2) := dk_18 48 (dk_at dksJ14_rangeCheck_0 16 rfl rfl)
theorem dJ14_rangeCheck_18 : decode cJ14_rangeCheck 18 = .ok (.invokevirtual 50, 3) := dk_182 0 50 (dk_at dksJ14_rangeCheck_0 18 rfl rfl)
theorem dJ14_rangeCheck_21 : decode cJ14_rangeCheck 21 = .ok (.iload_n 1, 1) := dk_27 (dk_at dksJ14_rangeCheck_0 21 rfl rfl)
theorem dJ14_rangeCheck_22 : decode cJ14_rangeCheck 22 = .ok (.invokevirtual 54, 3) := dk_182 0 54 (dk_at dksJ14_rangeCheck_1 0 rfl rfl)
theorem dJ14_rangeCheck_25 : decode cJ14_rangeCheck 25 = .ok (.ldc 57, 2) := dk_18 57 (dk_at dksJ14_rangeCheck_1 3 rfl rfl)
theorem dJ14_rangeCheck_27 : decode cJ14_rangeCheck 27 = .ok (.invokevirtual 50, 3) := dk_182 0 50 (dk_at dksJ14_rangeCheck_1 5 rfl rfl)
theorem dJ14_rangeCheck_30 : decode cJ14_rangeCheck 30 = .ok (.iload_n 2, 1) := dk_28 (dk_at dksJ14_rangeCheck_1 8 rfl rfl)
theorem dJ14_rangeCheck_31 : decode cJ14_rangeCheck 31 = .ok (.invokevirtual 54, 3) := dk_182 0 54 (dk_at dksJ14_rangeCheck_1 9 rfl rfl)
theorem dJ14_rangeCheck_34 : decode cJ14_rangeCheck 34 = .ok (.ldc 59, 2) := dk_18 59 (dk_at dksJ14_rangeCheck_1 12 rfl rfl)
theorem dJ14_rangeCheck_36 : decode cJ14_rangeCheck 36 = .ok (.invokevirtual 50, 3) := dk_182 0 50 (dk_at dksJ14_rangeCheck_1 14 rfl rfl)
theorem dJ14_rangeCheck_39 : decode cJ14_rangeCheck 39 = .ok (.invokevirtual 61, 3) := dk_182 0 61 (dk_at dksJ14_rangeCheck_1 17 rfl rfl)
theorem dJ14_rangeCheck_42 : decode cJ14_rangeCheck 42 = .ok (.invokespecial 65, 3) := dk_183 0 65 (dk_at dksJ14_rangeCheck_1 20 rfl rfl)
theorem dJ14_rangeCheck_45 : decode cJ14_rangeCheck 45 = .ok (.athrow, 1) := dk_191 (dk_at dksJ14_rangeCheck_1 23 rfl rfl)
theorem dJ14_rangeCheck_46 : decode cJ14_rangeCheck 46 = .ok (.iload_n 1, 1) := dk_27 (dk_at dksJ14_rangeCheck_2 0 rfl rfl)
theorem dJ14_rangeCheck_47 : decode cJ14_rangeCheck 47 = .ok (.ifCond .ge 12, 3) := dk_156 0 12 (dk_at dksJ14_rangeCheck_2 1 rfl rfl)
theorem dJ14_rangeCheck_50 : decode cJ14_rangeCheck 50 = .ok (.new 68, 3) := dk_187 0 68 (dk_at dksJ14_rangeCheck_2 4 rfl rfl)
theorem dJ14_rangeCheck_53 : decode cJ14_rangeCheck 53 = .ok (.dup, 1) := dk_89 (dk_at dksJ14_rangeCheck_2 7 rfl rfl)
theorem dJ14_rangeCheck_54 : decode cJ14_rangeCheck 54 = .ok (.iload_n 1, 1) := dk_27 (dk_at dksJ14_rangeCheck_2 8 rfl rfl)
theorem dJ14_rangeCheck_55 : decode cJ14_rangeCheck 55 = .ok (.invokespecial 70, 3) := dk_183 0 70 (dk_at dksJ14_rangeCheck_2 9 rfl rfl)
theorem dJ14_rangeCheck_58 : decode cJ14_rangeCheck 58 = .ok (.athrow, 1) := dk_191 (dk_at dksJ14_rangeCheck_2 12 rfl rfl)
theorem dJ14_rangeCheck_59 : decode cJ14_rangeCheck 59 = .ok (.iload_n 2, 1) := dk_28 (dk_at dksJ14_rangeCheck_2 13 rfl rfl)
theorem dJ14_rangeCheck_60 : decode cJ14_rangeCheck 60 = .ok (.iload_n 0, 1) := dk_26 (dk_at dksJ14_rangeCheck_2 14 rfl rfl)
theorem dJ14_rangeCheck_61 : decode cJ14_rangeCheck 61 = .ok (.if_icmp .le 12, 3) := dk_164 0 12 (dk_at dksJ14_rangeCheck_2 15 rfl rfl)
theorem dJ14_rangeCheck_64 : decode cJ14_rangeCheck 64 = .ok (.new 68, 3) := dk_187 0 68 (dk_at dksJ14_rangeCheck_2 18 rfl rfl)
theorem dJ14_rangeCheck_67 : decode cJ14_rangeCheck 67 = .ok (.dup, 1) := dk_89 (dk_at dksJ14_rangeCheck_2 21 rfl rfl)
theorem dJ14_rangeCheck_68 : decode cJ14_rangeCheck 68 = .ok (.iload_n 2, 1) := dk_28 (dk_at dksJ14_rangeCheck_2 22 rfl rfl)
theorem dJ14_rangeCheck_69 : decode cJ14_rangeCheck 69 = .ok (.invokespecial 70, 3) := dk_183 0 70 (dk_at dksJ14_rangeCheck_3 0 rfl rfl)
theorem dJ14_rangeCheck_72 : decode cJ14_rangeCheck 72 = .ok (.athrow, 1) := dk_191 (dk_at dksJ14_rangeCheck_3 3 rfl rfl)
theorem dJ14_rangeCheck_73 : decode cJ14_rangeCheck 73 = .ok (.return_, 1) := dk_177 (dk_at dksJ14_rangeCheck_3 4 rfl rfl)
theorem q153 : (Jvm.Cond.initialized "java/util/Arrays") ∈ lw_all := lw_g (lw_at lw_m1 22 rfl) rfl
theorem q567 : (Jvm.Cond.static ({ cls := "java/util/Arrays", name := "copyOf", desc := "([JI)[J" } : Jvm.MethodName)) ∈ lw_all := lw_g (lw_at lw_m2 196 rfl) rfl
theorem q568 : (Jvm.Cond.code ({ cls := "java/util/Arrays", name := "copyOf", desc := "([JI)[J" } : Jvm.MethodName) prog_50_method_124_code (3 : Nat) (Option.some (Jvm.ClassFile.FieldType.array Jvm.ClassFile.FieldType.long))) ∈ lw_all := lw_g (lw_at lw_m2 197 rfl) rfl
theorem q569 : (Jvm.Cond.methodLink "java/util/Arrays" (319 : Nat) ({ cls := "[J", name := "clone", desc := "()Ljava/lang/Object;" } : Jvm.MethodName)) ∈ lw_all := lw_g (lw_at lw_m2 198 rfl) rfl
theorem q575 : (Jvm.Cond.classLink "java/util/Arrays" (320 : Nat) "[J") ∈ lw_all := lw_g (lw_at lw_m2 204 rfl) rfl
theorem q576 : (Jvm.Cond.methodLink "java/util/Arrays" (304 : Nat) ({ cls := "java/lang/Math", name := "min", desc := "(II)I" } : Jvm.MethodName)) ∈ lw_all := lw_g (lw_at lw_m2 205 rfl) rfl
theorem q579 : (Jvm.Cond.methodLink "java/util/Arrays" (150 : Nat) ({ cls := "java/lang/System", name := "arraycopy", desc := "(Ljava/lang/Object;ILjava/lang/Object;II)V" } : Jvm.MethodName)) ∈ lw_all := lw_g (lw_at lw_m2 208 rfl) rfl
theorem q811 : (Jvm.Cond.static ({ cls := "java/util/Arrays", name := "copyOf", desc := "([Ljava/lang/Object;I)[Ljava/lang/Object;" } : Jvm.MethodName)) ∈ lw_all := lw_g (lw_at lw_m3 200 rfl) rfl
theorem q812 : (Jvm.Cond.code ({ cls := "java/util/Arrays", name := "copyOf", desc := "([Ljava/lang/Object;I)[Ljava/lang/Object;" } : Jvm.MethodName) prog_50_method_119_code (2 : Nat) (Option.some (Jvm.ClassFile.FieldType.array (Jvm.ClassFile.FieldType.object "java/lang/Object")))) ∈ lw_all := lw_g (lw_at lw_m3 201 rfl) rfl
theorem q813 : (Jvm.Cond.methodLink "java/util/Arrays" (86 : Nat) ({ cls := "java/lang/Object", name := "getClass", desc := "()Ljava/lang/Class;" } : Jvm.MethodName)) ∈ lw_all := lw_g (lw_at lw_m3 202 rfl) rfl
theorem q848 : (Jvm.Cond.methodLink "java/util/Arrays" (300 : Nat) ({ cls := "java/util/Arrays", name := "copyOf", desc := "([Ljava/lang/Object;ILjava/lang/Class;)[Ljava/lang/Object;" } : Jvm.MethodName)) ∈ lw_all := lw_g (lw_at lw_m3 237 rfl) rfl
theorem q849 : (Jvm.Cond.static ({ cls := "java/util/Arrays", name := "copyOf", desc := "([Ljava/lang/Object;ILjava/lang/Class;)[Ljava/lang/Object;" } : Jvm.MethodName)) ∈ lw_all := lw_g (lw_at lw_m3 238 rfl) rfl
theorem q850 : (Jvm.Cond.code ({ cls := "java/util/Arrays", name := "copyOf", desc := "([Ljava/lang/Object;ILjava/lang/Class;)[Ljava/lang/Object;" } : Jvm.MethodName) prog_50_method_120_code (4 : Nat) (Option.some (Jvm.ClassFile.FieldType.array (Jvm.ClassFile.FieldType.object "java/lang/Object")))) ∈ lw_all := lw_g (lw_at lw_m3 239 rfl) rfl
theorem q851 : (Jvm.Cond.classLink "java/util/Arrays" (110 : Nat) "[Ljava/lang/Object;") ∈ lw_all := lw_g (lw_at lw_m4 0 rfl) rfl
theorem q852 : (Jvm.Cond.classLink "java/util/Arrays" (2 : Nat) "java/lang/Object") ∈ lw_all := lw_g (lw_at lw_m4 1 rfl) rfl
theorem q1445 : (Jvm.Cond.static ({ cls := "java/util/Arrays", name := "copyOf", desc := "([BI)[B" } : Jvm.MethodName)) ∈ lw_all := lw_g (lw_at lw_m6 114 rfl) rfl
theorem q1446 : (Jvm.Cond.code ({ cls := "java/util/Arrays", name := "copyOf", desc := "([BI)[B" } : Jvm.MethodName) prog_50_method_121_code (3 : Nat) (Option.some (Jvm.ClassFile.FieldType.array Jvm.ClassFile.FieldType.byte))) ∈ lw_all := lw_g (lw_at lw_m6 115 rfl) rfl
theorem q1447 : (Jvm.Cond.methodLink "java/util/Arrays" (310 : Nat) ({ cls := "[B", name := "clone", desc := "()Ljava/lang/Object;" } : Jvm.MethodName)) ∈ lw_all := lw_g (lw_at lw_m6 116 rfl) rfl
theorem q1451 : (Jvm.Cond.classLink "java/util/Arrays" (311 : Nat) "[B") ∈ lw_all := lw_g (lw_at lw_m6 120 rfl) rfl
theorem q1555 : (Jvm.Cond.static ({ cls := "java/util/Arrays", name := "copyOfRange", desc := "([BII)[B" } : Jvm.MethodName)) ∈ lw_all := lw_g (lw_at lw_m6 224 rfl) rfl
theorem q1556 : (Jvm.Cond.code ({ cls := "java/util/Arrays", name := "copyOfRange", desc := "([BII)[B" } : Jvm.MethodName) prog_50_method_132_code (3 : Nat) (Option.some (Jvm.ClassFile.FieldType.array Jvm.ClassFile.FieldType.byte))) ∈ lw_all := lw_g (lw_at lw_m6 225 rfl) rfl
theorem q1557 : (Jvm.Cond.methodLink "java/util/Arrays" (339 : Nat) ({ cls := "java/util/Arrays", name := "copyOfRangeByte", desc := "([BII)[B" } : Jvm.MethodName)) ∈ lw_all := lw_g (lw_at lw_m6 226 rfl) rfl
theorem q1558 : (Jvm.Cond.static ({ cls := "java/util/Arrays", name := "copyOfRangeByte", desc := "([BII)[B" } : Jvm.MethodName)) ∈ lw_all := lw_g (lw_at lw_m6 227 rfl) rfl
theorem q1559 : (Jvm.Cond.code ({ cls := "java/util/Arrays", name := "copyOfRangeByte", desc := "([BII)[B" } : Jvm.MethodName) prog_50_method_133_code (5 : Nat) (Option.some (Jvm.ClassFile.FieldType.array Jvm.ClassFile.FieldType.byte))) ∈ lw_all := lw_g (lw_at lw_m6 228 rfl) rfl
theorem q1560 : (Jvm.Cond.methodLink "java/util/Arrays" (343 : Nat) ({ cls := "java/util/Arrays", name := "checkLength", desc := "(II)V" } : Jvm.MethodName)) ∈ lw_all := lw_g (lw_at lw_m6 229 rfl) rfl
theorem q1561 : (Jvm.Cond.static ({ cls := "java/util/Arrays", name := "checkLength", desc := "(II)V" } : Jvm.MethodName)) ∈ lw_all := lw_g (lw_at lw_m6 230 rfl) rfl
theorem q1562 : (Jvm.Cond.code ({ cls := "java/util/Arrays", name := "checkLength", desc := "(II)V" } : Jvm.MethodName) prog_50_method_131_code (2 : Nat) (Option.none : Option Jvm.ClassFile.FieldType)) ∈ lw_all := lw_g (lw_at lw_m6 231 rfl) rfl
theorem q1896 : (Jvm.Cond.static ({ cls := "java/util/Arrays", name := "fill", desc := "([BIIB)V" } : Jvm.MethodName)) ∈ lw_all := lw_g (lw_at lw_m8 85 rfl) rfl
theorem q1897 : (Jvm.Cond.code ({ cls := "java/util/Arrays", name := "fill", desc := "([BIIB)V" } : Jvm.MethodName) prog_50_method_110_code (5 : Nat) (Option.none : Option Jvm.ClassFile.FieldType)) ∈ lw_all := lw_g (lw_at lw_m8 86 rfl) rfl
theorem q1898 : (Jvm.Cond.methodLink "java/util/Arrays" (13 : Nat) ({ cls := "java/util/Arrays", name := "rangeCheck", desc := "(III)V" } : Jvm.MethodName)) ∈ lw_all := lw_g (lw_at lw_m8 87 rfl) rfl
theorem q1899 : (Jvm.Cond.static ({ cls := "java/util/Arrays", name := "rangeCheck", desc := "(III)V" } : Jvm.MethodName)) ∈ lw_all := lw_g (lw_at lw_m8 88 rfl) rfl
theorem q1900 : (Jvm.Cond.code ({ cls := "java/util/Arrays", name := "rangeCheck", desc := "(III)V" } : Jvm.MethodName) prog_50_method_30_code (3 : Nat) (Option.none : Option Jvm.ClassFile.FieldType)) ∈ lw_all := lw_g (lw_at lw_m8 89 rfl) rfl
/-! java/util/Objects -/
set_option maxRecDepth 100000
def RJ15 : String := "java/util/Objects"
abbrev cJ15_checkIndex : ByteArray := prog_68_method_17_code
def yJ15_checkIndex : MethodName := ⟨RJ15, "checkIndex", "(II)I"⟩
def dkwJ15_checkIndex_0 : List UInt8 := [26, 27, 1, 184, 0, 105, 172]
abbrev dktJ15_checkIndex_0 : List UInt8 := dkwJ15_checkIndex_0 ++ []
theorem dksJ15_checkIndex_0 : cJ15_checkIndex.data.toList.drop 0 = dktJ15_checkIndex_0 := by decide +kernel
theorem dJ15_checkIndex_0 : decode cJ15_checkIndex 0 = .ok (.iload_n 0, 1) := dk_26 (dk_at dksJ15_checkIndex_0 0 rfl rfl)
theorem dJ15_checkIndex_1 : decode cJ15_checkIndex 1 = .ok (.iload_n 1, 1) := dk_27 (dk_at dksJ15_checkIndex_0 1 rfl rfl)
theorem dJ15_checkIndex_2 : decode cJ15_checkIndex 2 = .ok (.aconst_null, 1) := dk_1 (dk_at dksJ15_checkIndex_0 2 rfl rfl)
theorem dJ15_checkIndex_3 : decode cJ15_checkIndex 3 = .ok (.invokestatic 105, 3) := dk_184 0 105 (dk_at dksJ15_checkIndex_0 3 rfl rfl)
theorem dJ15_checkIndex_6 : decode cJ15_checkIndex 6 = .ok (.ireturn, 1) := dk_172 (dk_at dksJ15_checkIndex_0 6 rfl rfl)
theorem q155 : (Jvm.Cond.initialized "java/util/Objects") ∈ lw_all := lw_g (lw_at lw_m1 24 rfl) rfl
theorem q701 : (Jvm.Cond.static ({ cls := "java/util/Objects", name := "checkIndex", desc := "(II)I" } : Jvm.MethodName)) ∈ lw_all := lw_g (lw_at lw_m3 90 rfl) rfl
theorem q702 : (Jvm.Cond.code ({ cls := "java/util/Objects", name := "checkIndex", desc := "(II)I" } : Jvm.MethodName) prog_68_method_17_code (2 : Nat) (Option.some Jvm.ClassFile.FieldType.int)) ∈ lw_all := lw_g (lw_at lw_m3 91 rfl) rfl
theorem q703 : (Jvm.Cond.methodLink "java/util/Objects" (105 : Nat) ({ cls := "jdk/internal/util/Preconditions", name := "checkIndex", desc := "(IILjava/util/function/BiFunction;)I" } : Jvm.MethodName)) ∈ lw_all := lw_g (lw_at lw_m3 92 rfl) rfl
/-! jdk/internal/util/Preconditions -/
set_option maxRecDepth 100000
def RJ16 : String := "jdk/internal/util/Preconditions"
abbrev cJ16_checkIndex : ByteArray := prog_73_method_11_code
def yJ16_checkIndex : MethodName := ⟨RJ16, "checkIndex", "(IILjava/util/function/BiFunction;)I"⟩
def dkwJ16_checkIndex_0 : List UInt8 := [26, 155, 0, 8, 26, 27, 161, 0, 10, 44, 26, 27, 184, 0, 95, 191, 26, 172]
abbrev dktJ16_checkIndex_0 : List UInt8 := dkwJ16_checkIndex_0 ++ []
theorem dksJ16_checkIndex_0 : cJ16_checkIndex.data.toList.drop 0 = dktJ16_checkIndex_0 := by decide +kernel
theorem dJ16_checkIndex_0 : decode cJ16_checkIndex 0 = .ok (.iload_n 0, 1) := dk_26 (dk_at dksJ16_checkIndex_0 0 rfl rfl)
theorem dJ16_checkIndex_1 : decode cJ16_checkIndex 1 = .ok (.ifCond .lt 8, 3) := dk_155 0 8 (dk_at dksJ16_checkIndex_0 1 rfl rfl)
theorem dJ16_checkIndex_4 : decode cJ16_checkIndex 4 = .ok (.iload_n 0, 1) := dk_26 (dk_at dksJ16_checkIndex_0 4 rfl rfl)
theorem dJ16_checkIndex_5 : decode cJ16_checkIndex 5 = .ok (.iload_n 1, 1) := dk_27 (dk_at dksJ16_checkIndex_0 5 rfl rfl)
theorem dJ16_checkIndex_6 : decode cJ16_checkIndex 6 = .ok (.if_icmp .lt 10, 3) := dk_161 0 10 (dk_at dksJ16_checkIndex_0 6 rfl rfl)
theorem dJ16_checkIndex_9 : decode cJ16_checkIndex 9 = .ok (.aload_n 2, 1) := dk_44 (dk_at dksJ16_checkIndex_0 9 rfl rfl)
theorem dJ16_checkIndex_10 : decode cJ16_checkIndex 10 = .ok (.iload_n 0, 1) := dk_26 (dk_at dksJ16_checkIndex_0 10 rfl rfl)
theorem dJ16_checkIndex_11 : decode cJ16_checkIndex 11 = .ok (.iload_n 1, 1) := dk_27 (dk_at dksJ16_checkIndex_0 11 rfl rfl)
theorem dJ16_checkIndex_12 : decode cJ16_checkIndex 12 = .ok (.invokestatic 95, 3) := dk_184 0 95 (dk_at dksJ16_checkIndex_0 12 rfl rfl)
theorem dJ16_checkIndex_15 : decode cJ16_checkIndex 15 = .ok (.athrow, 1) := dk_191 (dk_at dksJ16_checkIndex_0 15 rfl rfl)
theorem dJ16_checkIndex_16 : decode cJ16_checkIndex 16 = .ok (.iload_n 0, 1) := dk_26 (dk_at dksJ16_checkIndex_0 16 rfl rfl)
theorem dJ16_checkIndex_17 : decode cJ16_checkIndex 17 = .ok (.ireturn, 1) := dk_172 (dk_at dksJ16_checkIndex_0 17 rfl rfl)
abbrev cJ16_checkFromToIndex : ByteArray := prog_73_method_12_code
def yJ16_checkFromToIndex : MethodName := ⟨RJ16, "checkFromToIndex", "(IIILjava/util/function/BiFunction;)I"⟩
def dkwJ16_checkFromToIndex_0 : List UInt8 := [26, 155, 0, 13, 26, 27, 163, 0, 8, 27, 28, 164, 0, 11, 45, 26, 27, 28, 184, 0, 99, 191, 26, 172]
abbrev dktJ16_checkFromToIndex_0 : List UInt8 := dkwJ16_checkFromToIndex_0 ++ []
theorem dksJ16_checkFromToIndex_0 : cJ16_checkFromToIndex.data.toList.drop 0 = dktJ16_checkFromToIndex_0 := by decide +kernel
theorem dJ16_checkFromToIndex_0 : decode cJ16_checkFromToIndex 0 = .ok (.iload_n 0, 1) := dk_26 (dk_at dksJ16_checkFromToIndex_0 0 rfl rfl)
theorem dJ16_checkFromToIndex_1 : decode cJ16_checkFromToIndex 1 = .ok (.ifCond .lt 13, 3) := dk_155 0 13 (dk_at dksJ16_checkFromToIndex_0 1 rfl rfl)
theorem dJ16_checkFromToIndex_4 : decode cJ16_checkFromToIndex 4 = .ok (.iload_n 0, 1) := dk_26 (dk_at dksJ16_checkFromToIndex_0 4 rfl rfl)
theorem dJ16_checkFromToIndex_5 : decode cJ16_checkFromToIndex 5 = .ok (.iload_n 1, 1) := dk_27 (dk_at dksJ16_checkFromToIndex_0 5 rfl rfl)
theorem dJ16_checkFromToIndex_6 : decode cJ16_checkFromToIndex 6 = .ok (.if_icmp .gt 8, 3) := dk_163 0 8 (dk_at dksJ16_checkFromToIndex_0 6 rfl rfl)
theorem dJ16_checkFromToIndex_9 : decode cJ16_checkFromToIndex 9 = .ok (.iload_n 1, 1) := dk_27 (dk_at dksJ16_checkFromToIndex_0 9 rfl rfl)
theorem dJ16_checkFromToIndex_10 : decode cJ16_checkFromToIndex 10 = .ok (.iload_n 2, 1) := dk_28 (dk_at dksJ16_checkFromToIndex_0 10 rfl rfl)
theorem dJ16_checkFromToIndex_11 : decode cJ16_checkFromToIndex 11 = .ok (.if_icmp .le 11, 3) := dk_164 0 11 (dk_at dksJ16_checkFromToIndex_0 11 rfl rfl)
theorem dJ16_checkFromToIndex_14 : decode cJ16_checkFromToIndex 14 = .ok (.aload_n 3, 1) := dk_45 (dk_at dksJ16_checkFromToIndex_0 14 rfl rfl)
theorem dJ16_checkFromToIndex_15 : decode cJ16_checkFromToIndex 15 = .ok (.iload_n 0, 1) := dk_26 (dk_at dksJ16_checkFromToIndex_0 15 rfl rfl)
theorem dJ16_checkFromToIndex_16 : decode cJ16_checkFromToIndex 16 = .ok (.iload_n 1, 1) := dk_27 (dk_at dksJ16_checkFromToIndex_0 16 rfl rfl)
theorem dJ16_checkFromToIndex_17 : decode cJ16_checkFromToIndex 17 = .ok (.iload_n 2, 1) := dk_28 (dk_at dksJ16_checkFromToIndex_0 17 rfl rfl)
theorem dJ16_checkFromToIndex_18 : decode cJ16_checkFromToIndex 18 = .ok (.invokestatic 99, 3) := dk_184 0 99 (dk_at dksJ16_checkFromToIndex_0 18 rfl rfl)
theorem dJ16_checkFromToIndex_21 : decode cJ16_checkFromToIndex 21 = .ok (.athrow, 1) := dk_191 (dk_at dksJ16_checkFromToIndex_0 21 rfl rfl)
theorem dJ16_checkFromToIndex_22 : decode cJ16_checkFromToIndex 22 = .ok (.iload_n 0, 1) := dk_26 (dk_at dksJ16_checkFromToIndex_0 22 rfl rfl)
theorem dJ16_checkFromToIndex_23 : decode cJ16_checkFromToIndex 23 = .ok (.ireturn, 1) := dk_172 (dk_at dksJ16_checkFromToIndex_0 23 rfl rfl)
abbrev cJ16_checkFromIndexSize : ByteArray := prog_73_method_13_code
def yJ16_checkFromIndexSize : MethodName := ⟨RJ16, "checkFromIndexSize", "(IIILjava/util/function/BiFunction;)I"⟩
def dkwJ16_checkFromIndexSize_1 : List UInt8 := [172]
abbrev dktJ16_checkFromIndexSize_1 : List UInt8 := dkwJ16_checkFromIndexSize_1 ++ []
def dkwJ16_checkFromIndexSize_0 : List UInt8 := [28, 26, 128, 27, 128, 155, 0, 10, 27, 28, 26, 100, 164, 0, 11, 45, 26, 27, 28, 184, 0, 103, 191, 26]
abbrev dktJ16_checkFromIndexSize_0 : List UInt8 := dkwJ16_checkFromIndexSize_0 ++ dktJ16_checkFromIndexSize_1
theorem dksJ16_checkFromIndexSize_0 : cJ16_checkFromIndexSize.data.toList.drop 0 = dktJ16_checkFromIndexSize_0 := by decide +kernel
theorem dksJ16_checkFromIndexSize_1 : cJ16_checkFromIndexSize.data.toList.drop 24 = dktJ16_checkFromIndexSize_1 := dk_seg dksJ16_checkFromIndexSize_0 24 rfl rfl
theorem dJ16_checkFromIndexSize_0 : decode cJ16_checkFromIndexSize 0 = .ok (.iload_n 2, 1) := dk_28 (dk_at dksJ16_checkFromIndexSize_0 0 rfl rfl)
theorem dJ16_checkFromIndexSize_1 : decode cJ16_checkFromIndexSize 1 = .ok (.iload_n 0, 1) := dk_26 (dk_at dksJ16_checkFromIndexSize_0 1 rfl rfl)
theorem dJ16_checkFromIndexSize_2 : decode cJ16_checkFromIndexSize 2 = .ok (.ior, 1) := dk_128 (dk_at dksJ16_checkFromIndexSize_0 2 rfl rfl)
theorem dJ16_checkFromIndexSize_3 : decode cJ16_checkFromIndexSize 3 = .ok (.iload_n 1, 1) := dk_27 (dk_at dksJ16_checkFromIndexSize_0 3 rfl rfl)
theorem dJ16_checkFromIndexSize_4 : decode cJ16_checkFromIndexSize 4 = .ok (.ior, 1) := dk_128 (dk_at dksJ16_checkFromIndexSize_0 4 rfl rfl)
theorem dJ16_checkFromIndexSize_5 : decode cJ16_checkFromIndexSize 5 = .ok (.ifCond .lt 10, 3) := dk_155 0 10 (dk_at dksJ16_checkFromIndexSize_0 5 rfl rfl)
theorem dJ16_checkFromIndexSize_8 : decode cJ16_checkFromIndexSize 8 = .ok (.iload_n 1, 1) := dk_27 (dk_at dksJ16_checkFromIndexSize_0 8 rfl rfl)
theorem dJ16_checkFromIndexSize_9 : decode cJ16_checkFromIndexSize 9 = .ok (.iload_n 2, 1) := dk_28 (dk_at dksJ16_checkFromIndexSize_0 9 rfl rfl)
theorem dJ16_checkFromIndexSize_10 : decode cJ16_checkFromIndexSize 10 = .ok (.iload_n 0, 1) := dk_26 (dk_at dksJ16_checkFromIndexSize_0 10 rfl rfl)
theorem dJ16_checkFromIndexSize_11 : decode cJ16_checkFromIndexSize 11 = .ok (.isub, 1) := dk_100 (dk_at dksJ16_checkFromIndexSize_0 11 rfl rfl)
theorem dJ16_checkFromIndexSize_12 : decode cJ16_checkFromIndexSize 12 = .ok (.if_icmp .le 11, 3) := dk_164 0 11 (dk_at dksJ16_checkFromIndexSize_0 12 rfl rfl)
theorem dJ16_checkFromIndexSize_15 : decode cJ16_checkFromIndexSize 15 = .ok (.aload_n 3, 1) := dk_45 (dk_at dksJ16_checkFromIndexSize_0 15 rfl rfl)
theorem dJ16_checkFromIndexSize_16 : decode cJ16_checkFromIndexSize 16 = .ok (.iload_n 0, 1) := dk_26 (dk_at dksJ16_checkFromIndexSize_0 16 rfl rfl)
theorem dJ16_checkFromIndexSize_17 : decode cJ16_checkFromIndexSize 17 = .ok (.iload_n 1, 1) := dk_27 (dk_at dksJ16_checkFromIndexSize_0 17 rfl rfl)
theorem dJ16_checkFromIndexSize_18 : decode cJ16_checkFromIndexSize 18 = .ok (.iload_n 2, 1) := dk_28 (dk_at dksJ16_checkFromIndexSize_0 18 rfl rfl)
theorem dJ16_checkFromIndexSize_19 : decode cJ16_checkFromIndexSize 19 = .ok (.invokestatic 103, 3) := dk_184 0 103 (dk_at dksJ16_checkFromIndexSize_0 19 rfl rfl)
theorem dJ16_checkFromIndexSize_22 : decode cJ16_checkFromIndexSize 22 = .ok (.athrow, 1) := dk_191 (dk_at dksJ16_checkFromIndexSize_0 22 rfl rfl)
theorem dJ16_checkFromIndexSize_23 : decode cJ16_checkFromIndexSize 23 = .ok (.iload_n 0, 1) := dk_26 (dk_at dksJ16_checkFromIndexSize_0 23 rfl rfl)
theorem dJ16_checkFromIndexSize_24 : decode cJ16_checkFromIndexSize 24 = .ok (.ireturn, 1) := dk_172 (dk_at dksJ16_checkFromIndexSize_1 0 rfl rfl)
theorem q156 : (Jvm.Cond.initialized "jdk/internal/util/Preconditions") ∈ lw_all := lw_g (lw_at lw_m1 25 rfl) rfl
theorem q704 : (Jvm.Cond.static ({ cls := "jdk/internal/util/Preconditions", name := "checkIndex", desc := "(IILjava/util/function/BiFunction;)I" } : Jvm.MethodName)) ∈ lw_all := lw_g (lw_at lw_m3 93 rfl) rfl
theorem q705 : (Jvm.Cond.code ({ cls := "jdk/internal/util/Preconditions", name := "checkIndex", desc := "(IILjava/util/function/BiFunction;)I" } : Jvm.MethodName) prog_73_method_11_code (3 : Nat) (Option.some Jvm.ClassFile.FieldType.int)) ∈ lw_all := lw_g (lw_at lw_m3 94 rfl) rfl
theorem q1470 : (Jvm.Cond.laysStatic "jdk/internal/util/Preconditions" "SIOOBE_FORMATTER" "Ljava/util/function/BiFunction;") ∈ lw_tbl := lw_at lw_m6 139 rfl
theorem q1472 : (Jvm.Cond.static ({ cls := "jdk/internal/util/Preconditions", name := "checkFromToIndex", desc := "(IIILjava/util/function/BiFunction;)I" } : Jvm.MethodName)) ∈ lw_all := lw_g (lw_at lw_m6 141 rfl) rfl
theorem q1473 : (Jvm.Cond.code ({ cls := "jdk/internal/util/Preconditions", name := "checkFromToIndex", desc := "(IIILjava/util/function/BiFunction;)I" } : Jvm.MethodName) prog_73_method_12_code (4 : Nat) (Option.some Jvm.ClassFile.FieldType.int)) ∈ lw_all := lw_g (lw_at lw_m6 142 rfl) rfl
theorem q1518 : (Jvm.Cond.static ({ cls := "jdk/internal/util/Preconditions", name := "checkFromIndexSize", desc := "(IIILjava/util/function/BiFunction;)I" } : Jvm.MethodName)) ∈ lw_all := lw_g (lw_at lw_m6 187 rfl) rfl
theorem q1519 : (Jvm.Cond.code ({ cls := "jdk/internal/util/Preconditions", name := "checkFromIndexSize", desc := "(IIILjava/util/function/BiFunction;)I" } : Jvm.MethodName) prog_73_method_13_code (4 : Nat) (Option.some Jvm.ClassFile.FieldType.int)) ∈ lw_all := lw_g (lw_at lw_m6 188 rfl) rfl
/-! java/util/List -/
set_option maxRecDepth 100000
def RJ17 : String := "java/util/List"
abbrev cJ17_of : ByteArray := prog_65_method_36_code
def yJ17_of : MethodName := ⟨RJ17, "of", "()Ljava/util/List;"⟩
theorem dJ17_of_0 : decode cJ17_of 0 = .ok (.getstatic 90, 3) := by decide +kernel
theorem dJ17_of_3 : decode cJ17_of 3 = .ok (.areturn, 1) := by decide +kernel
theorem q157 : (Jvm.Cond.initialized "java/util/List") ∈ lw_all := lw_g (lw_at lw_m1 26 rfl) rfl
theorem q617 : (Jvm.Cond.interfaceMethod "java/util/List" "java/util/List" "size" "()I") ∈ lw_tbl := lw_at lw_m3 6 rfl
theorem q618 : (Jvm.Cond.declares ({ cls := "java/util/List", name := "size", desc := "()I" } : Jvm.MethodName)) ∈ lw_tbl := lw_at lw_m3 7 rfl
theorem q639 : (Jvm.Cond.interfaceMethod "java/util/List" "java/util/List" "clear" "()V") ∈ lw_tbl := lw_at lw_m3 28 rfl
theorem q640 : (Jvm.Cond.declares ({ cls := "java/util/List", name := "clear", desc := "()V" } : Jvm.MethodName)) ∈ lw_tbl := lw_at lw_m3 29 rfl
theorem q662 : (Jvm.Cond.interfaceMethod "java/util/List" "java/util/List" "isEmpty" "()Z") ∈ lw_tbl := lw_at lw_m3 51 rfl
theorem q663 : (Jvm.Cond.declares ({ cls := "java/util/List", name := "isEmpty", desc := "()Z" } : Jvm.MethodName)) ∈ lw_tbl := lw_at lw_m3 52 rfl
theorem q693 : (Jvm.Cond.interfaceMethod "java/util/List" "java/util/List" "remove" "(I)Ljava/lang/Object;") ∈ lw_tbl := lw_at lw_m3 82 rfl
theorem q694 : (Jvm.Cond.declares ({ cls := "java/util/List", name := "remove", desc := "(I)Ljava/lang/Object;" } : Jvm.MethodName)) ∈ lw_tbl := lw_at lw_m3 83 rfl
theorem q739 : (Jvm.Cond.static ({ cls := "java/util/List", name := "of", desc := "()Ljava/util/List;" } : Jvm.MethodName)) ∈ lw_all := lw_g (lw_at lw_m3 128 rfl) rfl
theorem q740 : (Jvm.Cond.code ({ cls := "java/util/List", name := "of", desc := "()Ljava/util/List;" } : Jvm.MethodName) prog_65_method_36_code (0 : Nat) (Option.some (Jvm.ClassFile.FieldType.object "java/util/List"))) ∈ lw_all := lw_g (lw_at lw_m3 129 rfl) rfl
theorem q741 : (Jvm.Cond.fieldLink "java/util/List" (90 : Nat) "java/util/ImmutableCollections" "EMPTY_LIST" "Ljava/util/ImmutableCollections$ListN;") ∈ lw_all := lw_g (lw_at lw_m3 130 rfl) rfl
theorem q749 : (Jvm.Cond.interfaceMethod "java/util/List" "java/util/List" "get" "(I)Ljava/lang/Object;") ∈ lw_tbl := lw_at lw_m3 138 rfl
theorem q750 : (Jvm.Cond.declares ({ cls := "java/util/List", name := "get", desc := "(I)Ljava/lang/Object;" } : Jvm.MethodName)) ∈ lw_tbl := lw_at lw_m3 139 rfl
theorem q783 : (Jvm.Cond.interfaceMethod "java/util/List" "java/util/List" "add" "(Ljava/lang/Object;)Z") ∈ lw_tbl := lw_at lw_m3 172 rfl
theorem q784 : (Jvm.Cond.declares ({ cls := "java/util/List", name := "add", desc := "(Ljava/lang/Object;)Z" } : Jvm.MethodName)) ∈ lw_tbl := lw_at lw_m3 173 rfl
theorem q969 : (Jvm.Cond.interfaceMethod "java/util/List" "java/util/List" "add" "(ILjava/lang/Object;)V") ∈ lw_tbl := lw_at lw_m4 118 rfl
theorem q970 : (Jvm.Cond.declares ({ cls := "java/util/List", name := "add", desc := "(ILjava/lang/Object;)V" } : Jvm.MethodName)) ∈ lw_tbl := lw_at lw_m4 119 rfl
theorem q1203 : (Jvm.Cond.interfaceMethod "java/util/List" "java/util/List" "iterator" "()Ljava/util/Iterator;") ∈ lw_tbl := lw_at lw_m5 112 rfl
theorem q1204 : (Jvm.Cond.declares ({ cls := "java/util/List", name := "iterator", desc := "()Ljava/util/Iterator;" } : Jvm.MethodName)) ∈ lw_tbl := lw_at lw_m5 113 rfl
/-! jdk/internal/util/ArraysSupport -/
set_option maxRecDepth 100000
def RJ18 : String := "jdk/internal/util/ArraysSupport"
abbrev cJ18_newLength : ByteArray := prog_72_method_27_code
def yJ18_newLength : MethodName := ⟨RJ18, "newLength", "(III)I"⟩
def dkwJ18_newLength_1 : List UInt8 := [184, 0, 201, 172]
abbrev dktJ18_newLength_1 : List UInt8 := dkwJ18_newLength_1 ++ []
def dkwJ18_newLength_0 : List UInt8 := [26, 27, 28, 184, 0, 194, 96, 62, 3, 29, 162, 0, 11, 29, 18, 200, 163, 0, 5, 29, 172, 26, 27]
abbrev dktJ18_newLength_0 : List UInt8 := dkwJ18_newLength_0 ++ dktJ18_newLength_1
theorem dksJ18_newLength_0 : cJ18_newLength.data.toList.drop 0 = dktJ18_newLength_0 := by decide +kernel
theorem dksJ18_newLength_1 : cJ18_newLength.data.toList.drop 23 = dktJ18_newLength_1 := dk_seg dksJ18_newLength_0 23 rfl rfl
theorem dJ18_newLength_0 : decode cJ18_newLength 0 = .ok (.iload_n 0, 1) := dk_26 (dk_at dksJ18_newLength_0 0 rfl rfl)
theorem dJ18_newLength_1 : decode cJ18_newLength 1 = .ok (.iload_n 1, 1) := dk_27 (dk_at dksJ18_newLength_0 1 rfl rfl)
theorem dJ18_newLength_2 : decode cJ18_newLength 2 = .ok (.iload_n 2, 1) := dk_28 (dk_at dksJ18_newLength_0 2 rfl rfl)
theorem dJ18_newLength_3 : decode cJ18_newLength 3 = .ok (.invokestatic 194, 3) := dk_184 0 194 (dk_at dksJ18_newLength_0 3 rfl rfl)
theorem dJ18_newLength_6 : decode cJ18_newLength 6 = .ok (.iadd, 1) := dk_96 (dk_at dksJ18_newLength_0 6 rfl rfl)
theorem dJ18_newLength_7 : decode cJ18_newLength 7 = .ok (.istore_n 3, 1) := dk_62 (dk_at dksJ18_newLength_0 7 rfl rfl)
theorem dJ18_newLength_8 : decode cJ18_newLength 8 = .ok (.iconst 0, 1) := dk_3 (dk_at dksJ18_newLength_0 8 rfl rfl)
theorem dJ18_newLength_9 : decode cJ18_newLength 9 = .ok (.iload_n 3, 1) := dk_29 (dk_at dksJ18_newLength_0 9 rfl rfl)
theorem dJ18_newLength_10 : decode cJ18_newLength 10 = .ok (.if_icmp .ge 11, 3) := dk_162 0 11 (dk_at dksJ18_newLength_0 10 rfl rfl)
theorem dJ18_newLength_13 : decode cJ18_newLength 13 = .ok (.iload_n 3, 1) := dk_29 (dk_at dksJ18_newLength_0 13 rfl rfl)
theorem dJ18_newLength_14 : decode cJ18_newLength 14 = .ok (.ldc 200, 2) := dk_18 200 (dk_at dksJ18_newLength_0 14 rfl rfl)
theorem dJ18_newLength_16 : decode cJ18_newLength 16 = .ok (.if_icmp .gt 5, 3) := dk_163 0 5 (dk_at dksJ18_newLength_0 16 rfl rfl)
theorem dJ18_newLength_19 : decode cJ18_newLength 19 = .ok (.iload_n 3, 1) := dk_29 (dk_at dksJ18_newLength_0 19 rfl rfl)
theorem dJ18_newLength_20 : decode cJ18_newLength 20 = .ok (.ireturn, 1) := dk_172 (dk_at dksJ18_newLength_0 20 rfl rfl)
theorem dJ18_newLength_21 : decode cJ18_newLength 21 = .ok (.iload_n 0, 1) := dk_26 (dk_at dksJ18_newLength_0 21 rfl rfl)
theorem dJ18_newLength_22 : decode cJ18_newLength 22 = .ok (.iload_n 1, 1) := dk_27 (dk_at dksJ18_newLength_0 22 rfl rfl)
theorem dJ18_newLength_23 : decode cJ18_newLength 23 = .ok (.invokestatic 201, 3) := dk_184 0 201 (dk_at dksJ18_newLength_1 0 rfl rfl)
theorem dJ18_newLength_26 : decode cJ18_newLength 26 = .ok (.ireturn, 1) := dk_172 (dk_at dksJ18_newLength_1 3 rfl rfl)
abbrev cJ18_hugeLength : ByteArray := prog_72_method_28_code
def yJ18_hugeLength : MethodName := ⟨RJ18, "hugeLength", "(II)I"⟩
def dkwJ18_hugeLength_2 : List UInt8 := [191, 28, 18, 200, 163, 0, 6, 18, 200, 172, 28, 172]
abbrev dktJ18_hugeLength_2 : List UInt8 := dkwJ18_hugeLength_2 ++ []
def dkwJ18_hugeLength_1 : List UInt8 := [26, 182, 0, 98, 18, 208, 182, 0, 94, 27, 182, 0, 98, 18, 210, 182, 0, 94, 182, 0, 101, 183, 0, 212]
abbrev dktJ18_hugeLength_1 : List UInt8 := dkwJ18_hugeLength_1 ++ dktJ18_hugeLength_2
def dkwJ18_hugeLength_0 : List UInt8 := [26, 27, 96, 61, 28, 156, 0, 44, 187, 0, 204, 89, 187, 0, 89, 89, 183, 0, 91, 18, 206, 182, 0, 94]
abbrev dktJ18_hugeLength_0 : List UInt8 := dkwJ18_hugeLength_0 ++ dktJ18_hugeLength_1
theorem dksJ18_hugeLength_0 : cJ18_hugeLength.data.toList.drop 0 = dktJ18_hugeLength_0 := by decide +kernel
theorem dksJ18_hugeLength_1 : cJ18_hugeLength.data.toList.drop 24 = dktJ18_hugeLength_1 := dk_seg dksJ18_hugeLength_0 24 rfl rfl
theorem dksJ18_hugeLength_2 : cJ18_hugeLength.data.toList.drop 48 = dktJ18_hugeLength_2 := dk_seg dksJ18_hugeLength_1 24 rfl rfl
theorem dJ18_hugeLength_0 : decode cJ18_hugeLength 0 = .ok (.iload_n 0, 1) := dk_26 (dk_at dksJ18_hugeLength_0 0 rfl rfl)
theorem dJ18_hugeLength_1 : decode cJ18_hugeLength 1 = .ok (.iload_n 1, 1) := dk_27 (dk_at dksJ18_hugeLength_0 1 rfl rfl)
theorem dJ18_hugeLength_2 : decode cJ18_hugeLength 2 = .ok (.iadd, 1) := dk_96 (dk_at dksJ18_hugeLength_0 2 rfl rfl)
theorem dJ18_hugeLength_3 : decode cJ18_hugeLength 3 = .ok (.istore_n 2, 1) := dk_61 (dk_at dksJ18_hugeLength_0 3 rfl rfl)
theorem dJ18_hugeLength_4 : decode cJ18_hugeLength 4 = .ok (.iload_n 2, 1) := dk_28 (dk_at dksJ18_hugeLength_0 4 rfl rfl)
theorem dJ18_hugeLength_5 : decode cJ18_hugeLength 5 = .ok (.ifCond .ge 44, 3) := dk_156 0 44 (dk_at dksJ18_hugeLength_0 5 rfl rfl)
theorem dJ18_hugeLength_8 : decode cJ18_hugeLength 8 = .ok (.new 204, 3) := dk_187 0 204 (dk_at dksJ18_hugeLength_0 8 rfl rfl)
theorem dJ18_hugeLength_11 : decode cJ18_hugeLength 11 = .ok (.dup, 1) := dk_89 (dk_at dksJ18_hugeLength_0 11 rfl rfl)
theorem dJ18_hugeLength_12 : decode cJ18_hugeLength 12 = .ok (.new 89, 3) := dk_187 0 89 (dk_at dksJ18_hugeLength_0 12 rfl rfl)
theorem dJ18_hugeLength_15 : decode cJ18_hugeLength 15 = .ok (.dup, 1) := dk_89 (dk_at dksJ18_hugeLength_0 15 rfl rfl)
theorem dJ18_hugeLength_16 : decode cJ18_hugeLength 16 = .ok (.invokespecial 91, 3) := dk_183 0 91 (dk_at dksJ18_hugeLength_0 16 rfl rfl)
theorem dJ18_hugeLength_19 : decode cJ18_hugeLength 19 = .ok (.ldc 206, 2) := dk_18 206 (dk_at dksJ18_hugeLength_0 19 rfl rfl)
theorem dJ18_hugeLength_21 : decode cJ18_hugeLength 21 = .ok (.invokevirtual 94, 3) := dk_182 0 94 (dk_at dksJ18_hugeLength_0 21 rfl rfl)
theorem dJ18_hugeLength_24 : decode cJ18_hugeLength 24 = .ok (.iload_n 0, 1) := dk_26 (dk_at dksJ18_hugeLength_1 0 rfl rfl)
theorem dJ18_hugeLength_25 : decode cJ18_hugeLength 25 = .ok (.invokevirtual 98, 3) := dk_182 0 98 (dk_at dksJ18_hugeLength_1 1 rfl rfl)
theorem dJ18_hugeLength_28 : decode cJ18_hugeLength 28 = .ok (.ldc 208, 2) := dk_18 208 (dk_at dksJ18_hugeLength_1 4 rfl rfl)
theorem dJ18_hugeLength_30 : decode cJ18_hugeLength 30 = .ok (.invokevirtual 94, 3) := dk_182 0 94 (dk_at dksJ18_hugeLength_1 6 rfl rfl)
theorem dJ18_hugeLength_33 : decode cJ18_hugeLength 33 = .ok (.iload_n 1, 1) := dk_27 (dk_at dksJ18_hugeLength_1 9 rfl rfl)
theorem dJ18_hugeLength_34 : decode cJ18_hugeLength 34 = .ok (.invokevirtual 98, 3) := dk_182 0 98 (dk_at dksJ18_hugeLength_1 10 rfl rfl)
theorem dJ18_hugeLength_37 : decode cJ18_hugeLength 37 = .ok (.ldc 210, 2) := dk_18 210 (dk_at dksJ18_hugeLength_1 13 rfl rfl)
theorem dJ18_hugeLength_39 : decode cJ18_hugeLength 39 = .ok (.invokevirtual 94, 3) := dk_182 0 94 (dk_at dksJ18_hugeLength_1 15 rfl rfl)
theorem dJ18_hugeLength_42 : decode cJ18_hugeLength 42 = .ok (.invokevirtual 101, 3) := dk_182 0 101 (dk_at dksJ18_hugeLength_1 18 rfl rfl)
theorem dJ18_hugeLength_45 : decode cJ18_hugeLength 45 = .ok (.invokespecial 212, 3) := dk_183 0 212 (dk_at dksJ18_hugeLength_1 21 rfl rfl)
theorem dJ18_hugeLength_48 : decode cJ18_hugeLength 48 = .ok (.athrow, 1) := dk_191 (dk_at dksJ18_hugeLength_2 0 rfl rfl)
theorem dJ18_hugeLength_49 : decode cJ18_hugeLength 49 = .ok (.iload_n 2, 1) := dk_28 (dk_at dksJ18_hugeLength_2 1 rfl rfl)
theorem dJ18_hugeLength_50 : decode cJ18_hugeLength 50 = .ok (.ldc 200, 2) := dk_18 200 (dk_at dksJ18_hugeLength_2 2 rfl rfl)
theorem dJ18_hugeLength_52 : decode cJ18_hugeLength 52 = .ok (.if_icmp .gt 6, 3) := dk_163 0 6 (dk_at dksJ18_hugeLength_2 4 rfl rfl)
theorem dJ18_hugeLength_55 : decode cJ18_hugeLength 55 = .ok (.ldc 200, 2) := dk_18 200 (dk_at dksJ18_hugeLength_2 7 rfl rfl)
theorem dJ18_hugeLength_57 : decode cJ18_hugeLength 57 = .ok (.ireturn, 1) := dk_172 (dk_at dksJ18_hugeLength_2 9 rfl rfl)
theorem dJ18_hugeLength_58 : decode cJ18_hugeLength 58 = .ok (.iload_n 2, 1) := dk_28 (dk_at dksJ18_hugeLength_2 10 rfl rfl)
theorem dJ18_hugeLength_59 : decode cJ18_hugeLength 59 = .ok (.ireturn, 1) := dk_172 (dk_at dksJ18_hugeLength_2 11 rfl rfl)
theorem q159 : (Jvm.Cond.initialized "jdk/internal/util/ArraysSupport") ∈ lw_all := lw_g (lw_at lw_m1 28 rfl) rfl
theorem q803 : (Jvm.Cond.static ({ cls := "jdk/internal/util/ArraysSupport", name := "newLength", desc := "(III)I" } : Jvm.MethodName)) ∈ lw_all := lw_g (lw_at lw_m3 192 rfl) rfl
theorem q804 : (Jvm.Cond.code ({ cls := "jdk/internal/util/ArraysSupport", name := "newLength", desc := "(III)I" } : Jvm.MethodName) prog_72_method_27_code (4 : Nat) (Option.some Jvm.ClassFile.FieldType.int)) ∈ lw_all := lw_g (lw_at lw_m3 193 rfl) rfl
theorem q805 : (Jvm.Cond.methodLink "jdk/internal/util/ArraysSupport" (194 : Nat) ({ cls := "java/lang/Math", name := "max", desc := "(II)I" } : Jvm.MethodName)) ∈ lw_all := lw_g (lw_at lw_m3 194 rfl) rfl
theorem q806 : (Jvm.Cond.constant "jdk/internal/util/ArraysSupport" (200 : Nat) (2147483639 : Int32)) ∈ lw_all := lw_g (lw_at lw_m3 195 rfl) rfl
theorem q807 : (Jvm.Cond.methodLink "jdk/internal/util/ArraysSupport" (201 : Nat) ({ cls := "jdk/internal/util/ArraysSupport", name := "hugeLength", desc := "(II)I" } : Jvm.MethodName)) ∈ lw_all := lw_g (lw_at lw_m3 196 rfl) rfl
theorem q808 : (Jvm.Cond.static ({ cls := "jdk/internal/util/ArraysSupport", name := "hugeLength", desc := "(II)I" } : Jvm.MethodName)) ∈ lw_all := lw_g (lw_at lw_m3 197 rfl) rfl
theorem q809 : (Jvm.Cond.code ({ cls := "jdk/internal/util/ArraysSupport", name := "hugeLength", desc := "(II)I" } : Jvm.MethodName) prog_72_method_28_code (3 : Nat) (Option.some Jvm.ClassFile.FieldType.int)) ∈ lw_all := lw_g (lw_at lw_m3 198 rfl) rfl
/-! java/util/LinkedList$Node -/
set_option maxRecDepth 100000
def RJ19 : String := "java/util/LinkedList$Node"
def TJ19 : u_T := fun k => match k with
  | 0 => ("java/util/LinkedList$Node", "item", "Ljava/lang/Object;", false)
  | 1 => ("java/util/LinkedList$Node", "next", "Ljava/util/LinkedList$Node;", false)
  | _ => ("java/util/LinkedList$Node", "prev", "Ljava/util/LinkedList$Node;", false)
def tyJ19 : Nat → FieldType := fun k => match k with
  | 0 => .object "java/lang/Object"
  | 1 => .object "java/util/LinkedList$Node"
  | _ => .object "java/util/LinkedList$Node"
abbrev wsJ190 : List Cond := u_ws RJ19 TJ19 3
theorem nmJ19 : ∀ a, a < 3 → ∀ b, b < 3 → a ≠ b → (TJ19 a).2.1 ≠ (TJ19 b).2.1 := by decide +kernel
theorem tyJ19_ok : ∀ k, k < 3 → parseFieldDescriptor (TJ19 k).2.2.1 = some (tyJ19 k) := by decide +kernel
abbrev cJ19_init : ByteArray := prog_64_method_1_code
def yJ19_init : MethodName := ⟨RJ19, "<init>", "(Ljava/util/LinkedList$Node;Ljava/lang/Object;Ljava/util/LinkedList$Node;)V"⟩
def dkwJ19_init_0 : List UInt8 := [42, 183, 0, 1, 42, 44, 181, 0, 7, 42, 45, 181, 0, 13, 42, 43, 181, 0, 17, 177]
abbrev dktJ19_init_0 : List UInt8 := dkwJ19_init_0 ++ []
theorem dksJ19_init_0 : cJ19_init.data.toList.drop 0 = dktJ19_init_0 := by decide +kernel
theorem dJ19_init_0 : decode cJ19_init 0 = .ok (.aload_n 0, 1) := dk_42 (dk_at dksJ19_init_0 0 rfl rfl)
theorem dJ19_init_1 : decode cJ19_init 1 = .ok (.invokespecial 1, 3) := dk_183 0 1 (dk_at dksJ19_init_0 1 rfl rfl)
theorem dJ19_init_4 : decode cJ19_init 4 = .ok (.aload_n 0, 1) := dk_42 (dk_at dksJ19_init_0 4 rfl rfl)
theorem dJ19_init_5 : decode cJ19_init 5 = .ok (.aload_n 2, 1) := dk_44 (dk_at dksJ19_init_0 5 rfl rfl)
theorem dJ19_init_6 : decode cJ19_init 6 = .ok (.putfield 7, 3) := dk_181 0 7 (dk_at dksJ19_init_0 6 rfl rfl)
theorem dJ19_init_9 : decode cJ19_init 9 = .ok (.aload_n 0, 1) := dk_42 (dk_at dksJ19_init_0 9 rfl rfl)
theorem dJ19_init_10 : decode cJ19_init 10 = .ok (.aload_n 3, 1) := dk_45 (dk_at dksJ19_init_0 10 rfl rfl)
theorem dJ19_init_11 : decode cJ19_init 11 = .ok (.putfield 13, 3) := dk_181 0 13 (dk_at dksJ19_init_0 11 rfl rfl)
theorem dJ19_init_14 : decode cJ19_init 14 = .ok (.aload_n 0, 1) := dk_42 (dk_at dksJ19_init_0 14 rfl rfl)
theorem dJ19_init_15 : decode cJ19_init 15 = .ok (.aload_n 1, 1) := dk_43 (dk_at dksJ19_init_0 15 rfl rfl)
theorem dJ19_init_16 : decode cJ19_init 16 = .ok (.putfield 17, 3) := dk_181 0 17 (dk_at dksJ19_init_0 16 rfl rfl)
theorem dJ19_init_19 : decode cJ19_init 19 = .ok (.return_, 1) := dk_177 (dk_at dksJ19_init_0 19 rfl rfl)
theorem q160 : (Jvm.Cond.initialized "java/util/LinkedList$Node") ∈ lw_all := lw_g (lw_at lw_m1 29 rfl) rfl
theorem q845 : (Jvm.Cond.selects "java/util/LinkedList$Node" ({ cls := "java/lang/Object", name := "getClass", desc := "()Ljava/lang/Class;" } : Jvm.MethodName) ({ cls := "java/lang/Object", name := "getClass", desc := "()Ljava/lang/Class;" } : Jvm.MethodName)) ∈ lw_all := lw_g (lw_at lw_m3 234 rfl) rfl
theorem q870 : (Jvm.Cond.instantiable "java/util/LinkedList$Node" (3 : Nat)) ∈ lw_all := lw_g (lw_at lw_m4 19 rfl) rfl
theorem q872 : (Jvm.Cond.instanceMethod ({ cls := "java/util/LinkedList$Node", name := "<init>", desc := "(Ljava/util/LinkedList$Node;Ljava/lang/Object;Ljava/util/LinkedList$Node;)V" } : Jvm.MethodName)) ∈ lw_all := lw_g (lw_at lw_m4 21 rfl) rfl
theorem q873 : (Jvm.Cond.code ({ cls := "java/util/LinkedList$Node", name := "<init>", desc := "(Ljava/util/LinkedList$Node;Ljava/lang/Object;Ljava/util/LinkedList$Node;)V" } : Jvm.MethodName) prog_64_method_1_code (4 : Nat) (Option.none : Option Jvm.ClassFile.FieldType)) ∈ lw_all := lw_g (lw_at lw_m4 22 rfl) rfl
theorem q874 : (Jvm.Cond.methodLink "java/util/LinkedList$Node" (1 : Nat) ({ cls := "java/lang/Object", name := "<init>", desc := "()V" } : Jvm.MethodName)) ∈ lw_all := lw_g (lw_at lw_m4 23 rfl) rfl
theorem q875 : (Jvm.Cond.fieldLink "java/util/LinkedList$Node" (7 : Nat) "java/util/LinkedList$Node" "item" "Ljava/lang/Object;") ∈ lw_all := lw_g (lw_at lw_m4 24 rfl) rfl
theorem q878 : (Jvm.Cond.fieldLink "java/util/LinkedList$Node" (13 : Nat) "java/util/LinkedList$Node" "next" "Ljava/util/LinkedList$Node;") ∈ lw_all := lw_g (lw_at lw_m4 27 rfl) rfl
theorem q881 : (Jvm.Cond.fieldLink "java/util/LinkedList$Node" (17 : Nat) "java/util/LinkedList$Node" "prev" "Ljava/util/LinkedList$Node;") ∈ lw_all := lw_g (lw_at lw_m4 30 rfl) rfl
theorem q883 : (Jvm.Cond.lays "java/util/LinkedList$Node" "java/util/LinkedList$Node" "item" "Ljava/lang/Object;") ∈ lw_all := lw_g (lw_at lw_m4 32 rfl) rfl
theorem q884 : (Jvm.Cond.soleField "java/util/LinkedList$Node" "item") ∈ lw_all := lw_g (lw_at lw_m4 33 rfl) rfl
theorem q885 : (Jvm.Cond.lays "java/util/LinkedList$Node" "java/util/LinkedList$Node" "next" "Ljava/util/LinkedList$Node;") ∈ lw_all := lw_g (lw_at lw_m4 34 rfl) rfl
theorem q886 : (Jvm.Cond.soleField "java/util/LinkedList$Node" "next") ∈ lw_all := lw_g (lw_at lw_m4 35 rfl) rfl
theorem q887 : (Jvm.Cond.lays "java/util/LinkedList$Node" "java/util/LinkedList$Node" "prev" "Ljava/util/LinkedList$Node;") ∈ lw_all := lw_g (lw_at lw_m4 36 rfl) rfl
theorem q888 : (Jvm.Cond.soleField "java/util/LinkedList$Node" "prev") ∈ lw_all := lw_g (lw_at lw_m4 37 rfl) rfl
theorem q889 : (Jvm.Cond.superclass "java/util/LinkedList$Node" "java/lang/Object") ∈ lw_all := lw_g (lw_at lw_m4 38 rfl) rfl
theorem q3010 : (Jvm.Cond.castable "java/util/LinkedList$Node" "java/lang/Object") ∈ lw_tbl := lw_at lw_m12 239 rfl
theorem in_J19 : ∀ w ∈ wsJ190, w ∈ lw_all := lw_in wsJ190 [883, 885, 887] (by decide +kernel) (by decide +kernel)
/-! java/util/ArrayList -/
set_option maxRecDepth 100000
def RJ2 : String := "java/util/ArrayList"
def TJ2 : u_T := fun k => match k with
  | 0 => ("java/util/AbstractList", "modCount", "I", false)
  | 1 => ("java/util/ArrayList", "elementData", "[Ljava/lang/Object;", false)
  | _ => ("java/util/ArrayList", "size", "I", false)
def tyJ2 : Nat → FieldType := fun k => match k with
  | 0 => .int
  | 1 => .array (.object "java/lang/Object")
  | _ => .int
abbrev wsJ20 : List Cond := u_ws RJ2 TJ2 3
theorem nmJ2 : ∀ a, a < 3 → ∀ b, b < 3 → a ≠ b → (TJ2 a).2.1 ≠ (TJ2 b).2.1 := by decide +kernel
theorem tyJ2_ok : ∀ k, k < 3 → parseFieldDescriptor (TJ2 k).2.2.1 = some (tyJ2 k) := by decide +kernel
abbrev cJ2_init : ByteArray := prog_47_method_2_code
def yJ2_init : MethodName := ⟨RJ2, "<init>", "()V"⟩
def dkwJ2_init_0 : List UInt8 := [42, 183, 0, 1, 42, 178, 0, 39, 181, 0, 9, 177]
abbrev dktJ2_init_0 : List UInt8 := dkwJ2_init_0 ++ []
theorem dksJ2_init_0 : cJ2_init.data.toList.drop 0 = dktJ2_init_0 := by decide +kernel
theorem dJ2_init_0 : decode cJ2_init 0 = .ok (.aload_n 0, 1) := dk_42 (dk_at dksJ2_init_0 0 rfl rfl)
theorem dJ2_init_1 : decode cJ2_init 1 = .ok (.invokespecial 1, 3) := dk_183 0 1 (dk_at dksJ2_init_0 1 rfl rfl)
theorem dJ2_init_4 : decode cJ2_init 4 = .ok (.aload_n 0, 1) := dk_42 (dk_at dksJ2_init_0 4 rfl rfl)
theorem dJ2_init_5 : decode cJ2_init 5 = .ok (.getstatic 39, 3) := dk_178 0 39 (dk_at dksJ2_init_0 5 rfl rfl)
theorem dJ2_init_8 : decode cJ2_init 8 = .ok (.putfield 9, 3) := dk_181 0 9 (dk_at dksJ2_init_0 8 rfl rfl)
theorem dJ2_init_11 : decode cJ2_init 11 = .ok (.return_, 1) := dk_177 (dk_at dksJ2_init_0 11 rfl rfl)
abbrev cJ2_size : ByteArray := prog_47_method_8_code
def yJ2_size : MethodName := ⟨RJ2, "size", "()I"⟩
theorem dJ2_size_0 : decode cJ2_size 0 = .ok (.aload_n 0, 1) := by decide +kernel
theorem dJ2_size_1 : decode cJ2_size 1 = .ok (.getfield 48, 3) := by decide +kernel
theorem dJ2_size_4 : decode cJ2_size 4 = .ok (.ireturn, 1) := by decide +kernel
abbrev cJ2_clear : ByteArray := prog_47_method_40_code
def yJ2_clear : MethodName := ⟨RJ2, "clear", "()V"⟩
def dkwJ2_clear_1 : List UInt8 := [181, 0, 48, 62, 29, 28, 162, 0, 13, 43, 29, 1, 83, 132, 3, 1, 167, 255, 244, 177]
abbrev dktJ2_clear_1 : List UInt8 := dkwJ2_clear_1 ++ []
def dkwJ2_clear_0 : List UInt8 := [42, 89, 180, 0, 63, 4, 96, 181, 0, 63, 42, 180, 0, 9, 76, 42, 180, 0, 48, 61, 42, 3, 90]
abbrev dktJ2_clear_0 : List UInt8 := dkwJ2_clear_0 ++ dktJ2_clear_1
theorem dksJ2_clear_0 : cJ2_clear.data.toList.drop 0 = dktJ2_clear_0 := by decide +kernel
theorem dksJ2_clear_1 : cJ2_clear.data.toList.drop 23 = dktJ2_clear_1 := dk_seg dksJ2_clear_0 23 rfl rfl
theorem dJ2_clear_0 : decode cJ2_clear 0 = .ok (.aload_n 0, 1) := dk_42 (dk_at dksJ2_clear_0 0 rfl rfl)
theorem dJ2_clear_1 : decode cJ2_clear 1 = .ok (.dup, 1) := dk_89 (dk_at dksJ2_clear_0 1 rfl rfl)
theorem dJ2_clear_2 : decode cJ2_clear 2 = .ok (.getfield 63, 3) := dk_180 0 63 (dk_at dksJ2_clear_0 2 rfl rfl)
theorem dJ2_clear_5 : decode cJ2_clear 5 = .ok (.iconst 1, 1) := dk_4 (dk_at dksJ2_clear_0 5 rfl rfl)
theorem dJ2_clear_6 : decode cJ2_clear 6 = .ok (.iadd, 1) := dk_96 (dk_at dksJ2_clear_0 6 rfl rfl)
theorem dJ2_clear_7 : decode cJ2_clear 7 = .ok (.putfield 63, 3) := dk_181 0 63 (dk_at dksJ2_clear_0 7 rfl rfl)
theorem dJ2_clear_10 : decode cJ2_clear 10 = .ok (.aload_n 0, 1) := dk_42 (dk_at dksJ2_clear_0 10 rfl rfl)
theorem dJ2_clear_11 : decode cJ2_clear 11 = .ok (.getfield 9, 3) := dk_180 0 9 (dk_at dksJ2_clear_0 11 rfl rfl)
theorem dJ2_clear_14 : decode cJ2_clear 14 = .ok (.astore_n 1, 1) := dk_76 (dk_at dksJ2_clear_0 14 rfl rfl)
theorem dJ2_clear_15 : decode cJ2_clear 15 = .ok (.aload_n 0, 1) := dk_42 (dk_at dksJ2_clear_0 15 rfl rfl)
theorem dJ2_clear_16 : decode cJ2_clear 16 = .ok (.getfield 48, 3) := dk_180 0 48 (dk_at dksJ2_clear_0 16 rfl rfl)
theorem dJ2_clear_19 : decode cJ2_clear 19 = .ok (.istore_n 2, 1) := dk_61 (dk_at dksJ2_clear_0 19 rfl rfl)
theorem dJ2_clear_20 : decode cJ2_clear 20 = .ok (.aload_n 0, 1) := dk_42 (dk_at dksJ2_clear_0 20 rfl rfl)
theorem dJ2_clear_21 : decode cJ2_clear 21 = .ok (.iconst 0, 1) := dk_3 (dk_at dksJ2_clear_0 21 rfl rfl)
theorem dJ2_clear_22 : decode cJ2_clear 22 = .ok (.dup_x1, 1) := dk_90 (dk_at dksJ2_clear_0 22 rfl rfl)
theorem dJ2_clear_23 : decode cJ2_clear 23 = .ok (.putfield 48, 3) := dk_181 0 48 (dk_at dksJ2_clear_1 0 rfl rfl)
theorem dJ2_clear_26 : decode cJ2_clear 26 = .ok (.istore_n 3, 1) := dk_62 (dk_at dksJ2_clear_1 3 rfl rfl)
theorem dJ2_clear_27 : decode cJ2_clear 27 = .ok (.iload_n 3, 1) := dk_29 (dk_at dksJ2_clear_1 4 rfl rfl)
theorem dJ2_clear_28 : decode cJ2_clear 28 = .ok (.iload_n 2, 1) := dk_28 (dk_at dksJ2_clear_1 5 rfl rfl)
theorem dJ2_clear_29 : decode cJ2_clear 29 = .ok (.if_icmp .ge 13, 3) := dk_162 0 13 (dk_at dksJ2_clear_1 6 rfl rfl)
theorem dJ2_clear_32 : decode cJ2_clear 32 = .ok (.aload_n 1, 1) := dk_43 (dk_at dksJ2_clear_1 9 rfl rfl)
theorem dJ2_clear_33 : decode cJ2_clear 33 = .ok (.iload_n 3, 1) := dk_29 (dk_at dksJ2_clear_1 10 rfl rfl)
theorem dJ2_clear_34 : decode cJ2_clear 34 = .ok (.aconst_null, 1) := dk_1 (dk_at dksJ2_clear_1 11 rfl rfl)
theorem dJ2_clear_35 : decode cJ2_clear 35 = .ok (.aastore, 1) := dk_83 (dk_at dksJ2_clear_1 12 rfl rfl)
theorem dJ2_clear_36 : decode cJ2_clear 36 = .ok (.iinc 3 1, 3) := dk_132 3 1 (dk_at dksJ2_clear_1 13 rfl rfl)
theorem dJ2_clear_39 : decode cJ2_clear 39 = .ok (.goto (-12), 3) := dk_167 255 244 (dk_at dksJ2_clear_1 16 rfl rfl)
theorem dJ2_clear_42 : decode cJ2_clear 42 = .ok (.return_, 1) := dk_177 (dk_at dksJ2_clear_1 19 rfl rfl)
abbrev cJ2_isEmpty : ByteArray := prog_47_method_9_code
def yJ2_isEmpty : MethodName := ⟨RJ2, "isEmpty", "()Z"⟩
def dkwJ2_isEmpty_0 : List UInt8 := [42, 180, 0, 48, 154, 0, 7, 4, 167, 0, 4, 3, 172]
abbrev dktJ2_isEmpty_0 : List UInt8 := dkwJ2_isEmpty_0 ++ []
theorem dksJ2_isEmpty_0 : cJ2_isEmpty.data.toList.drop 0 = dktJ2_isEmpty_0 := by decide +kernel
theorem dJ2_isEmpty_0 : decode cJ2_isEmpty 0 = .ok (.aload_n 0, 1) := dk_42 (dk_at dksJ2_isEmpty_0 0 rfl rfl)
theorem dJ2_isEmpty_1 : decode cJ2_isEmpty 1 = .ok (.getfield 48, 3) := dk_180 0 48 (dk_at dksJ2_isEmpty_0 1 rfl rfl)
theorem dJ2_isEmpty_4 : decode cJ2_isEmpty 4 = .ok (.ifCond .ne 7, 3) := dk_154 0 7 (dk_at dksJ2_isEmpty_0 4 rfl rfl)
theorem dJ2_isEmpty_7 : decode cJ2_isEmpty 7 = .ok (.iconst 1, 1) := dk_4 (dk_at dksJ2_isEmpty_0 7 rfl rfl)
theorem dJ2_isEmpty_8 : decode cJ2_isEmpty 8 = .ok (.goto 4, 3) := dk_167 0 4 (dk_at dksJ2_isEmpty_0 8 rfl rfl)
theorem dJ2_isEmpty_11 : decode cJ2_isEmpty 11 = .ok (.iconst 0, 1) := dk_3 (dk_at dksJ2_isEmpty_0 11 rfl rfl)
theorem dJ2_isEmpty_12 : decode cJ2_isEmpty 12 = .ok (.ireturn, 1) := dk_172 (dk_at dksJ2_isEmpty_0 12 rfl rfl)
abbrev cJ2_remove : ByteArray := prog_47_method_29_code
def yJ2_remove : MethodName := ⟨RJ2, "remove", "(I)Ljava/lang/Object;"⟩
def dkwJ2_remove_1 : List UInt8 := [45, 176]
abbrev dktJ2_remove_1 : List UInt8 := dkwJ2_remove_1 ++ []
def dkwJ2_remove_0 : List UInt8 := [27, 42, 180, 0, 48, 184, 0, 118, 87, 42, 180, 0, 9, 77, 44, 27, 50, 78, 42, 44, 27, 182, 0, 144]
abbrev dktJ2_remove_0 : List UInt8 := dkwJ2_remove_0 ++ dktJ2_remove_1
theorem dksJ2_remove_0 : cJ2_remove.data.toList.drop 0 = dktJ2_remove_0 := by decide +kernel
theorem dksJ2_remove_1 : cJ2_remove.data.toList.drop 24 = dktJ2_remove_1 := dk_seg dksJ2_remove_0 24 rfl rfl
theorem dJ2_remove_0 : decode cJ2_remove 0 = .ok (.iload_n 1, 1) := dk_27 (dk_at dksJ2_remove_0 0 rfl rfl)
theorem dJ2_remove_1 : decode cJ2_remove 1 = .ok (.aload_n 0, 1) := dk_42 (dk_at dksJ2_remove_0 1 rfl rfl)
theorem dJ2_remove_2 : decode cJ2_remove 2 = .ok (.getfield 48, 3) := dk_180 0 48 (dk_at dksJ2_remove_0 2 rfl rfl)
theorem dJ2_remove_5 : decode cJ2_remove 5 = .ok (.invokestatic 118, 3) := dk_184 0 118 (dk_at dksJ2_remove_0 5 rfl rfl)
theorem dJ2_remove_8 : decode cJ2_remove 8 = .ok (.pop, 1) := dk_87 (dk_at dksJ2_remove_0 8 rfl rfl)
theorem dJ2_remove_9 : decode cJ2_remove 9 = .ok (.aload_n 0, 1) := dk_42 (dk_at dksJ2_remove_0 9 rfl rfl)
theorem dJ2_remove_10 : decode cJ2_remove 10 = .ok (.getfield 9, 3) := dk_180 0 9 (dk_at dksJ2_remove_0 10 rfl rfl)
theorem dJ2_remove_13 : decode cJ2_remove 13 = .ok (.astore_n 2, 1) := dk_77 (dk_at dksJ2_remove_0 13 rfl rfl)
theorem dJ2_remove_14 : decode cJ2_remove 14 = .ok (.aload_n 2, 1) := dk_44 (dk_at dksJ2_remove_0 14 rfl rfl)
theorem dJ2_remove_15 : decode cJ2_remove 15 = .ok (.iload_n 1, 1) := dk_27 (dk_at dksJ2_remove_0 15 rfl rfl)
theorem dJ2_remove_16 : decode cJ2_remove 16 = .ok (.aaload, 1) := dk_50 (dk_at dksJ2_remove_0 16 rfl rfl)
theorem dJ2_remove_17 : decode cJ2_remove 17 = .ok (.astore_n 3, 1) := dk_78 (dk_at dksJ2_remove_0 17 rfl rfl)
theorem dJ2_remove_18 : decode cJ2_remove 18 = .ok (.aload_n 0, 1) := dk_42 (dk_at dksJ2_remove_0 18 rfl rfl)
theorem dJ2_remove_19 : decode cJ2_remove 19 = .ok (.aload_n 2, 1) := dk_44 (dk_at dksJ2_remove_0 19 rfl rfl)
theorem dJ2_remove_20 : decode cJ2_remove 20 = .ok (.iload_n 1, 1) := dk_27 (dk_at dksJ2_remove_0 20 rfl rfl)
theorem dJ2_remove_21 : decode cJ2_remove 21 = .ok (.invokevirtual 144, 3) := dk_182 0 144 (dk_at dksJ2_remove_0 21 rfl rfl)
theorem dJ2_remove_24 : decode cJ2_remove 24 = .ok (.aload_n 3, 1) := dk_45 (dk_at dksJ2_remove_1 0 rfl rfl)
theorem dJ2_remove_25 : decode cJ2_remove 25 = .ok (.areturn, 1) := dk_176 (dk_at dksJ2_remove_1 1 rfl rfl)
abbrev cJ2_fastRemove : ByteArray := prog_47_method_39_code
def yJ2_fastRemove : MethodName := ⟨RJ2, "fastRemove", "([Ljava/lang/Object;I)V"⟩
def dkwJ2_fastRemove_1 : List UInt8 := [4, 96, 43, 28, 29, 28, 100, 184, 0, 112, 43, 42, 29, 90, 181, 0, 48, 1, 83, 177]
abbrev dktJ2_fastRemove_1 : List UInt8 := dkwJ2_fastRemove_1 ++ []
def dkwJ2_fastRemove_0 : List UInt8 := [42, 89, 180, 0, 63, 4, 96, 181, 0, 63, 42, 180, 0, 48, 4, 100, 89, 62, 28, 164, 0, 15, 43, 28]
abbrev dktJ2_fastRemove_0 : List UInt8 := dkwJ2_fastRemove_0 ++ dktJ2_fastRemove_1
theorem dksJ2_fastRemove_0 : cJ2_fastRemove.data.toList.drop 0 = dktJ2_fastRemove_0 := by decide +kernel
theorem dksJ2_fastRemove_1 : cJ2_fastRemove.data.toList.drop 24 = dktJ2_fastRemove_1 := dk_seg dksJ2_fastRemove_0 24 rfl rfl
theorem dJ2_fastRemove_0 : decode cJ2_fastRemove 0 = .ok (.aload_n 0, 1) := dk_42 (dk_at dksJ2_fastRemove_0 0 rfl rfl)
theorem dJ2_fastRemove_1 : decode cJ2_fastRemove 1 = .ok (.dup, 1) := dk_89 (dk_at dksJ2_fastRemove_0 1 rfl rfl)
theorem dJ2_fastRemove_2 : decode cJ2_fastRemove 2 = .ok (.getfield 63, 3) := dk_180 0 63 (dk_at dksJ2_fastRemove_0 2 rfl rfl)
theorem dJ2_fastRemove_5 : decode cJ2_fastRemove 5 = .ok (.iconst 1, 1) := dk_4 (dk_at dksJ2_fastRemove_0 5 rfl rfl)
theorem dJ2_fastRemove_6 : decode cJ2_fastRemove 6 = .ok (.iadd, 1) := dk_96 (dk_at dksJ2_fastRemove_0 6 rfl rfl)
theorem dJ2_fastRemove_7 : decode cJ2_fastRemove 7 = .ok (.putfield 63, 3) := dk_181 0 63 (dk_at dksJ2_fastRemove_0 7 rfl rfl)
theorem dJ2_fastRemove_10 : decode cJ2_fastRemove 10 = .ok (.aload_n 0, 1) := dk_42 (dk_at dksJ2_fastRemove_0 10 rfl rfl)
theorem dJ2_fastRemove_11 : decode cJ2_fastRemove 11 = .ok (.getfield 48, 3) := dk_180 0 48 (dk_at dksJ2_fastRemove_0 11 rfl rfl)
theorem dJ2_fastRemove_14 : decode cJ2_fastRemove 14 = .ok (.iconst 1, 1) := dk_4 (dk_at dksJ2_fastRemove_0 14 rfl rfl)
theorem dJ2_fastRemove_15 : decode cJ2_fastRemove 15 = .ok (.isub, 1) := dk_100 (dk_at dksJ2_fastRemove_0 15 rfl rfl)
theorem dJ2_fastRemove_16 : decode cJ2_fastRemove 16 = .ok (.dup, 1) := dk_89 (dk_at dksJ2_fastRemove_0 16 rfl rfl)
theorem dJ2_fastRemove_17 : decode cJ2_fastRemove 17 = .ok (.istore_n 3, 1) := dk_62 (dk_at dksJ2_fastRemove_0 17 rfl rfl)
theorem dJ2_fastRemove_18 : decode cJ2_fastRemove 18 = .ok (.iload_n 2, 1) := dk_28 (dk_at dksJ2_fastRemove_0 18 rfl rfl)
theorem dJ2_fastRemove_19 : decode cJ2_fastRemove 19 = .ok (.if_icmp .le 15, 3) := dk_164 0 15 (dk_at dksJ2_fastRemove_0 19 rfl rfl)
theorem dJ2_fastRemove_22 : decode cJ2_fastRemove 22 = .ok (.aload_n 1, 1) := dk_43 (dk_at dksJ2_fastRemove_0 22 rfl rfl)
theorem dJ2_fastRemove_23 : decode cJ2_fastRemove 23 = .ok (.iload_n 2, 1) := dk_28 (dk_at dksJ2_fastRemove_0 23 rfl rfl)
theorem dJ2_fastRemove_24 : decode cJ2_fastRemove 24 = .ok (.iconst 1, 1) := dk_4 (dk_at dksJ2_fastRemove_1 0 rfl rfl)
theorem dJ2_fastRemove_25 : decode cJ2_fastRemove 25 = .ok (.iadd, 1) := dk_96 (dk_at dksJ2_fastRemove_1 1 rfl rfl)
theorem dJ2_fastRemove_26 : decode cJ2_fastRemove 26 = .ok (.aload_n 1, 1) := dk_43 (dk_at dksJ2_fastRemove_1 2 rfl rfl)
theorem dJ2_fastRemove_27 : decode cJ2_fastRemove 27 = .ok (.iload_n 2, 1) := dk_28 (dk_at dksJ2_fastRemove_1 3 rfl rfl)
theorem dJ2_fastRemove_28 : decode cJ2_fastRemove 28 = .ok (.iload_n 3, 1) := dk_29 (dk_at dksJ2_fastRemove_1 4 rfl rfl)
theorem dJ2_fastRemove_29 : decode cJ2_fastRemove 29 = .ok (.iload_n 2, 1) := dk_28 (dk_at dksJ2_fastRemove_1 5 rfl rfl)
theorem dJ2_fastRemove_30 : decode cJ2_fastRemove 30 = .ok (.isub, 1) := dk_100 (dk_at dksJ2_fastRemove_1 6 rfl rfl)
theorem dJ2_fastRemove_31 : decode cJ2_fastRemove 31 = .ok (.invokestatic 112, 3) := dk_184 0 112 (dk_at dksJ2_fastRemove_1 7 rfl rfl)
theorem dJ2_fastRemove_34 : decode cJ2_fastRemove 34 = .ok (.aload_n 1, 1) := dk_43 (dk_at dksJ2_fastRemove_1 10 rfl rfl)
theorem dJ2_fastRemove_35 : decode cJ2_fastRemove 35 = .ok (.aload_n 0, 1) := dk_42 (dk_at dksJ2_fastRemove_1 11 rfl rfl)
theorem dJ2_fastRemove_36 : decode cJ2_fastRemove 36 = .ok (.iload_n 3, 1) := dk_29 (dk_at dksJ2_fastRemove_1 12 rfl rfl)
theorem dJ2_fastRemove_37 : decode cJ2_fastRemove 37 = .ok (.dup_x1, 1) := dk_90 (dk_at dksJ2_fastRemove_1 13 rfl rfl)
theorem dJ2_fastRemove_38 : decode cJ2_fastRemove 38 = .ok (.putfield 48, 3) := dk_181 0 48 (dk_at dksJ2_fastRemove_1 14 rfl rfl)
theorem dJ2_fastRemove_41 : decode cJ2_fastRemove 41 = .ok (.aconst_null, 1) := dk_1 (dk_at dksJ2_fastRemove_1 17 rfl rfl)
theorem dJ2_fastRemove_42 : decode cJ2_fastRemove 42 = .ok (.aastore, 1) := dk_83 (dk_at dksJ2_fastRemove_1 18 rfl rfl)
theorem dJ2_fastRemove_43 : decode cJ2_fastRemove 43 = .ok (.return_, 1) := dk_177 (dk_at dksJ2_fastRemove_1 19 rfl rfl)
abbrev cJ2_get : ByteArray := prog_47_method_20_code
def yJ2_get : MethodName := ⟨RJ2, "get", "(I)Ljava/lang/Object;"⟩
def dkwJ2_get_0 : List UInt8 := [27, 42, 180, 0, 48, 184, 0, 118, 87, 42, 27, 182, 0, 123, 176]
abbrev dktJ2_get_0 : List UInt8 := dkwJ2_get_0 ++ []
theorem dksJ2_get_0 : cJ2_get.data.toList.drop 0 = dktJ2_get_0 := by decide +kernel
theorem dJ2_get_0 : decode cJ2_get 0 = .ok (.iload_n 1, 1) := dk_27 (dk_at dksJ2_get_0 0 rfl rfl)
theorem dJ2_get_1 : decode cJ2_get 1 = .ok (.aload_n 0, 1) := dk_42 (dk_at dksJ2_get_0 1 rfl rfl)
theorem dJ2_get_2 : decode cJ2_get 2 = .ok (.getfield 48, 3) := dk_180 0 48 (dk_at dksJ2_get_0 2 rfl rfl)
theorem dJ2_get_5 : decode cJ2_get 5 = .ok (.invokestatic 118, 3) := dk_184 0 118 (dk_at dksJ2_get_0 5 rfl rfl)
theorem dJ2_get_8 : decode cJ2_get 8 = .ok (.pop, 1) := dk_87 (dk_at dksJ2_get_0 8 rfl rfl)
theorem dJ2_get_9 : decode cJ2_get 9 = .ok (.aload_n 0, 1) := dk_42 (dk_at dksJ2_get_0 9 rfl rfl)
theorem dJ2_get_10 : decode cJ2_get 10 = .ok (.iload_n 1, 1) := dk_27 (dk_at dksJ2_get_0 10 rfl rfl)
theorem dJ2_get_11 : decode cJ2_get 11 = .ok (.invokevirtual 123, 3) := dk_182 0 123 (dk_at dksJ2_get_0 11 rfl rfl)
theorem dJ2_get_14 : decode cJ2_get 14 = .ok (.areturn, 1) := dk_176 (dk_at dksJ2_get_0 14 rfl rfl)
abbrev cJ2_elementData : ByteArray := prog_47_method_18_code
def yJ2_elementData : MethodName := ⟨RJ2, "elementData", "(I)Ljava/lang/Object;"⟩
def dkwJ2_elementData_0 : List UInt8 := [42, 180, 0, 9, 27, 50, 176]
abbrev dktJ2_elementData_0 : List UInt8 := dkwJ2_elementData_0 ++ []
theorem dksJ2_elementData_0 : cJ2_elementData.data.toList.drop 0 = dktJ2_elementData_0 := by decide +kernel
theorem dJ2_elementData_0 : decode cJ2_elementData 0 = .ok (.aload_n 0, 1) := dk_42 (dk_at dksJ2_elementData_0 0 rfl rfl)
theorem dJ2_elementData_1 : decode cJ2_elementData 1 = .ok (.getfield 9, 3) := dk_180 0 9 (dk_at dksJ2_elementData_0 1 rfl rfl)
theorem dJ2_elementData_4 : decode cJ2_elementData 4 = .ok (.iload_n 1, 1) := dk_27 (dk_at dksJ2_elementData_0 4 rfl rfl)
theorem dJ2_elementData_5 : decode cJ2_elementData 5 = .ok (.aaload, 1) := dk_50 (dk_at dksJ2_elementData_0 5 rfl rfl)
theorem dJ2_elementData_6 : decode cJ2_elementData 6 = .ok (.areturn, 1) := dk_176 (dk_at dksJ2_elementData_0 6 rfl rfl)
abbrev cJ2_add : ByteArray := prog_47_method_25_code
def yJ2_add : MethodName := ⟨RJ2, "add", "(Ljava/lang/Object;)Z"⟩
def dkwJ2_add_1 : List UInt8 := [172]
abbrev dktJ2_add_1 : List UInt8 := dkwJ2_add_1 ++ []
def dkwJ2_add_0 : List UInt8 := [42, 89, 180, 0, 63, 4, 96, 181, 0, 63, 42, 43, 42, 180, 0, 9, 42, 180, 0, 48, 182, 0, 131, 4]
abbrev dktJ2_add_0 : List UInt8 := dkwJ2_add_0 ++ dktJ2_add_1
theorem dksJ2_add_0 : cJ2_add.data.toList.drop 0 = dktJ2_add_0 := by decide +kernel
theorem dksJ2_add_1 : cJ2_add.data.toList.drop 24 = dktJ2_add_1 := dk_seg dksJ2_add_0 24 rfl rfl
theorem dJ2_add_0 : decode cJ2_add 0 = .ok (.aload_n 0, 1) := dk_42 (dk_at dksJ2_add_0 0 rfl rfl)
theorem dJ2_add_1 : decode cJ2_add 1 = .ok (.dup, 1) := dk_89 (dk_at dksJ2_add_0 1 rfl rfl)
theorem dJ2_add_2 : decode cJ2_add 2 = .ok (.getfield 63, 3) := dk_180 0 63 (dk_at dksJ2_add_0 2 rfl rfl)
theorem dJ2_add_5 : decode cJ2_add 5 = .ok (.iconst 1, 1) := dk_4 (dk_at dksJ2_add_0 5 rfl rfl)
theorem dJ2_add_6 : decode cJ2_add 6 = .ok (.iadd, 1) := dk_96 (dk_at dksJ2_add_0 6 rfl rfl)
theorem dJ2_add_7 : decode cJ2_add 7 = .ok (.putfield 63, 3) := dk_181 0 63 (dk_at dksJ2_add_0 7 rfl rfl)
theorem dJ2_add_10 : decode cJ2_add 10 = .ok (.aload_n 0, 1) := dk_42 (dk_at dksJ2_add_0 10 rfl rfl)
theorem dJ2_add_11 : decode cJ2_add 11 = .ok (.aload_n 1, 1) := dk_43 (dk_at dksJ2_add_0 11 rfl rfl)
theorem dJ2_add_12 : decode cJ2_add 12 = .ok (.aload_n 0, 1) := dk_42 (dk_at dksJ2_add_0 12 rfl rfl)
theorem dJ2_add_13 : decode cJ2_add 13 = .ok (.getfield 9, 3) := dk_180 0 9 (dk_at dksJ2_add_0 13 rfl rfl)
theorem dJ2_add_16 : decode cJ2_add 16 = .ok (.aload_n 0, 1) := dk_42 (dk_at dksJ2_add_0 16 rfl rfl)
theorem dJ2_add_17 : decode cJ2_add 17 = .ok (.getfield 48, 3) := dk_180 0 48 (dk_at dksJ2_add_0 17 rfl rfl)
theorem dJ2_add_20 : decode cJ2_add 20 = .ok (.invokevirtual 131, 3) := dk_182 0 131 (dk_at dksJ2_add_0 20 rfl rfl)
theorem dJ2_add_23 : decode cJ2_add 23 = .ok (.iconst 1, 1) := dk_4 (dk_at dksJ2_add_0 23 rfl rfl)
theorem dJ2_add_24 : decode cJ2_add 24 = .ok (.ireturn, 1) := dk_172 (dk_at dksJ2_add_1 0 rfl rfl)
abbrev cJ2_add_2 : ByteArray := prog_47_method_24_code
def yJ2_add_2 : MethodName := ⟨RJ2, "add", "(Ljava/lang/Object;[Ljava/lang/Object;I)V"⟩
def dkwJ2_add_2_0 : List UInt8 := [29, 44, 190, 160, 0, 8, 42, 182, 0, 129, 77, 44, 29, 43, 83, 42, 29, 4, 96, 181, 0, 48, 177]
abbrev dktJ2_add_2_0 : List UInt8 := dkwJ2_add_2_0 ++ []
theorem dksJ2_add_2_0 : cJ2_add_2.data.toList.drop 0 = dktJ2_add_2_0 := by decide +kernel
theorem dJ2_add_2_0 : decode cJ2_add_2 0 = .ok (.iload_n 3, 1) := dk_29 (dk_at dksJ2_add_2_0 0 rfl rfl)
theorem dJ2_add_2_1 : decode cJ2_add_2 1 = .ok (.aload_n 2, 1) := dk_44 (dk_at dksJ2_add_2_0 1 rfl rfl)
theorem dJ2_add_2_2 : decode cJ2_add_2 2 = .ok (.arraylength, 1) := dk_190 (dk_at dksJ2_add_2_0 2 rfl rfl)
theorem dJ2_add_2_3 : decode cJ2_add_2 3 = .ok (.if_icmp .ne 8, 3) := dk_160 0 8 (dk_at dksJ2_add_2_0 3 rfl rfl)
theorem dJ2_add_2_6 : decode cJ2_add_2 6 = .ok (.aload_n 0, 1) := dk_42 (dk_at dksJ2_add_2_0 6 rfl rfl)
theorem dJ2_add_2_7 : decode cJ2_add_2 7 = .ok (.invokevirtual 129, 3) := dk_182 0 129 (dk_at dksJ2_add_2_0 7 rfl rfl)
theorem dJ2_add_2_10 : decode cJ2_add_2 10 = .ok (.astore_n 2, 1) := dk_77 (dk_at dksJ2_add_2_0 10 rfl rfl)
theorem dJ2_add_2_11 : decode cJ2_add_2 11 = .ok (.aload_n 2, 1) := dk_44 (dk_at dksJ2_add_2_0 11 rfl rfl)
theorem dJ2_add_2_12 : decode cJ2_add_2 12 = .ok (.iload_n 3, 1) := dk_29 (dk_at dksJ2_add_2_0 12 rfl rfl)
theorem dJ2_add_2_13 : decode cJ2_add_2 13 = .ok (.aload_n 1, 1) := dk_43 (dk_at dksJ2_add_2_0 13 rfl rfl)
theorem dJ2_add_2_14 : decode cJ2_add_2 14 = .ok (.aastore, 1) := dk_83 (dk_at dksJ2_add_2_0 14 rfl rfl)
theorem dJ2_add_2_15 : decode cJ2_add_2 15 = .ok (.aload_n 0, 1) := dk_42 (dk_at dksJ2_add_2_0 15 rfl rfl)
theorem dJ2_add_2_16 : decode cJ2_add_2 16 = .ok (.iload_n 3, 1) := dk_29 (dk_at dksJ2_add_2_0 16 rfl rfl)
theorem dJ2_add_2_17 : decode cJ2_add_2 17 = .ok (.iconst 1, 1) := dk_4 (dk_at dksJ2_add_2_0 17 rfl rfl)
theorem dJ2_add_2_18 : decode cJ2_add_2 18 = .ok (.iadd, 1) := dk_96 (dk_at dksJ2_add_2_0 18 rfl rfl)
theorem dJ2_add_2_19 : decode cJ2_add_2 19 = .ok (.putfield 48, 3) := dk_181 0 48 (dk_at dksJ2_add_2_0 19 rfl rfl)
theorem dJ2_add_2_22 : decode cJ2_add_2 22 = .ok (.return_, 1) := dk_177 (dk_at dksJ2_add_2_0 22 rfl rfl)
abbrev cJ2_grow : ByteArray := prog_47_method_7_code
def yJ2_grow : MethodName := ⟨RJ2, "grow", "()[Ljava/lang/Object;"⟩
def dkwJ2_grow_0 : List UInt8 := [42, 42, 180, 0, 48, 4, 96, 182, 0, 69, 176]
abbrev dktJ2_grow_0 : List UInt8 := dkwJ2_grow_0 ++ []
theorem dksJ2_grow_0 : cJ2_grow.data.toList.drop 0 = dktJ2_grow_0 := by decide +kernel
theorem dJ2_grow_0 : decode cJ2_grow 0 = .ok (.aload_n 0, 1) := dk_42 (dk_at dksJ2_grow_0 0 rfl rfl)
theorem dJ2_grow_1 : decode cJ2_grow 1 = .ok (.aload_n 0, 1) := dk_42 (dk_at dksJ2_grow_0 1 rfl rfl)
theorem dJ2_grow_2 : decode cJ2_grow 2 = .ok (.getfield 48, 3) := dk_180 0 48 (dk_at dksJ2_grow_0 2 rfl rfl)
theorem dJ2_grow_5 : decode cJ2_grow 5 = .ok (.iconst 1, 1) := dk_4 (dk_at dksJ2_grow_0 5 rfl rfl)
theorem dJ2_grow_6 : decode cJ2_grow 6 = .ok (.iadd, 1) := dk_96 (dk_at dksJ2_grow_0 6 rfl rfl)
theorem dJ2_grow_7 : decode cJ2_grow 7 = .ok (.invokevirtual 69, 3) := dk_182 0 69 (dk_at dksJ2_grow_0 7 rfl rfl)
theorem dJ2_grow_10 : decode cJ2_grow 10 = .ok (.areturn, 1) := dk_176 (dk_at dksJ2_grow_0 10 rfl rfl)
abbrev cJ2_grow_2 : ByteArray := prog_47_method_6_code
def yJ2_grow_2 : MethodName := ⟨RJ2, "grow", "(I)[Ljava/lang/Object;"⟩
def dkwJ2_grow_2_2 : List UInt8 := [27, 184, 0, 79, 189, 0, 7, 90, 181, 0, 9, 176]
abbrev dktJ2_grow_2_2 : List UInt8 := dkwJ2_grow_2_2 ++ []
def dkwJ2_grow_2_1 : List UInt8 := [28, 4, 122, 184, 0, 73, 62, 42, 42, 180, 0, 9, 29, 184, 0, 66, 90, 181, 0, 9, 176, 42, 16, 10]
abbrev dktJ2_grow_2_1 : List UInt8 := dkwJ2_grow_2_1 ++ dktJ2_grow_2_2
def dkwJ2_grow_2_0 : List UInt8 := [42, 180, 0, 9, 190, 61, 28, 157, 0, 13, 42, 180, 0, 9, 178, 0, 39, 165, 0, 28, 28, 27, 28, 100]
abbrev dktJ2_grow_2_0 : List UInt8 := dkwJ2_grow_2_0 ++ dktJ2_grow_2_1
theorem dksJ2_grow_2_0 : cJ2_grow_2.data.toList.drop 0 = dktJ2_grow_2_0 := by decide +kernel
theorem dksJ2_grow_2_1 : cJ2_grow_2.data.toList.drop 24 = dktJ2_grow_2_1 := dk_seg dksJ2_grow_2_0 24 rfl rfl
theorem dksJ2_grow_2_2 : cJ2_grow_2.data.toList.drop 48 = dktJ2_grow_2_2 := dk_seg dksJ2_grow_2_1 24 rfl rfl
theorem dJ2_grow_2_0 : decode cJ2_grow_2 0 = .ok (.aload_n 0, 1) := dk_42 (dk_at dksJ2_grow_2_0 0 rfl rfl)
theorem dJ2_grow_2_1 : decode cJ2_grow_2 1 = .ok (.getfield 9, 3) := dk_180 0 9 (dk_at dksJ2_grow_2_0 1 rfl rfl)
theorem dJ2_grow_2_4 : decode cJ2_grow_2 4 = .ok (.arraylength, 1) := dk_190 (dk_at dksJ2_grow_2_0 4 rfl rfl)
theorem dJ2_grow_2_5 : decode cJ2_grow_2 5 = .ok (.istore_n 2, 1) := dk_61 (dk_at dksJ2_grow_2_0 5 rfl rfl)
theorem dJ2_grow_2_6 : decode cJ2_grow_2 6 = .ok (.iload_n 2, 1) := dk_28 (dk_at dksJ2_grow_2_0 6 rfl rfl)
theorem dJ2_grow_2_7 : decode cJ2_grow_2 7 = .ok (.ifCond .gt 13, 3) := dk_157 0 13 (dk_at dksJ2_grow_2_0 7 rfl rfl)
theorem dJ2_grow_2_10 : decode cJ2_grow_2 10 = .ok (.aload_n 0, 1) := dk_42 (dk_at dksJ2_grow_2_0 10 rfl rfl)
theorem dJ2_grow_2_11 : decode cJ2_grow_2 11 = .ok (.getfield 9, 3) := dk_180 0 9 (dk_at dksJ2_grow_2_0 11 rfl rfl)
theorem dJ2_grow_2_14 : decode cJ2_grow_2 14 = .ok (.getstatic 39, 3) := dk_178 0 39 (dk_at dksJ2_grow_2_0 14 rfl rfl)
theorem dJ2_grow_2_17 : decode cJ2_grow_2 17 = .ok (.if_acmp .eq 28, 3) := dk_165 0 28 (dk_at dksJ2_grow_2_0 17 rfl rfl)
theorem dJ2_grow_2_20 : decode cJ2_grow_2 20 = .ok (.iload_n 2, 1) := dk_28 (dk_at dksJ2_grow_2_0 20 rfl rfl)
theorem dJ2_grow_2_21 : decode cJ2_grow_2 21 = .ok (.iload_n 1, 1) := dk_27 (dk_at dksJ2_grow_2_0 21 rfl rfl)
theorem dJ2_grow_2_22 : decode cJ2_grow_2 22 = .ok (.iload_n 2, 1) := dk_28 (dk_at dksJ2_grow_2_0 22 rfl rfl)
theorem dJ2_grow_2_23 : decode cJ2_grow_2 23 = .ok (.isub, 1) := dk_100 (dk_at dksJ2_grow_2_0 23 rfl rfl)
theorem dJ2_grow_2_24 : decode cJ2_grow_2 24 = .ok (.iload_n 2, 1) := dk_28 (dk_at dksJ2_grow_2_1 0 rfl rfl)
theorem dJ2_grow_2_25 : decode cJ2_grow_2 25 = .ok (.iconst 1, 1) := dk_4 (dk_at dksJ2_grow_2_1 1 rfl rfl)
theorem dJ2_grow_2_26 : decode cJ2_grow_2 26 = .ok (.ishr, 1) := dk_122 (dk_at dksJ2_grow_2_1 2 rfl rfl)
theorem dJ2_grow_2_27 : decode cJ2_grow_2 27 = .ok (.invokestatic 73, 3) := dk_184 0 73 (dk_at dksJ2_grow_2_1 3 rfl rfl)
theorem dJ2_grow_2_30 : decode cJ2_grow_2 30 = .ok (.istore_n 3, 1) := dk_62 (dk_at dksJ2_grow_2_1 6 rfl rfl)
theorem dJ2_grow_2_31 : decode cJ2_grow_2 31 = .ok (.aload_n 0, 1) := dk_42 (dk_at dksJ2_grow_2_1 7 rfl rfl)
theorem dJ2_grow_2_32 : decode cJ2_grow_2 32 = .ok (.aload_n 0, 1) := dk_42 (dk_at dksJ2_grow_2_1 8 rfl rfl)
theorem dJ2_grow_2_33 : decode cJ2_grow_2 33 = .ok (.getfield 9, 3) := dk_180 0 9 (dk_at dksJ2_grow_2_1 9 rfl rfl)
theorem dJ2_grow_2_36 : decode cJ2_grow_2 36 = .ok (.iload_n 3, 1) := dk_29 (dk_at dksJ2_grow_2_1 12 rfl rfl)
theorem dJ2_grow_2_37 : decode cJ2_grow_2 37 = .ok (.invokestatic 66, 3) := dk_184 0 66 (dk_at dksJ2_grow_2_1 13 rfl rfl)
theorem dJ2_grow_2_40 : decode cJ2_grow_2 40 = .ok (.dup_x1, 1) := dk_90 (dk_at dksJ2_grow_2_1 16 rfl rfl)
theorem dJ2_grow_2_41 : decode cJ2_grow_2 41 = .ok (.putfield 9, 3) := dk_181 0 9 (dk_at dksJ2_grow_2_1 17 rfl rfl)
theorem dJ2_grow_2_44 : decode cJ2_grow_2 44 = .ok (.areturn, 1) := dk_176 (dk_at dksJ2_grow_2_1 20 rfl rfl)
theorem dJ2_grow_2_45 : decode cJ2_grow_2 45 = .ok (.aload_n 0, 1) := dk_42 (dk_at dksJ2_grow_2_1 21 rfl rfl)
theorem dJ2_grow_2_46 : decode cJ2_grow_2 46 = .ok (.bipush 10, 2) := dk_16 10 (dk_at dksJ2_grow_2_1 22 rfl rfl)
theorem dJ2_grow_2_48 : decode cJ2_grow_2 48 = .ok (.iload_n 1, 1) := dk_27 (dk_at dksJ2_grow_2_2 0 rfl rfl)
theorem dJ2_grow_2_49 : decode cJ2_grow_2 49 = .ok (.invokestatic 79, 3) := dk_184 0 79 (dk_at dksJ2_grow_2_2 1 rfl rfl)
theorem dJ2_grow_2_52 : decode cJ2_grow_2 52 = .ok (.anewarray 7, 3) := dk_189 0 7 (dk_at dksJ2_grow_2_2 4 rfl rfl)
theorem dJ2_grow_2_55 : decode cJ2_grow_2 55 = .ok (.dup_x1, 1) := dk_90 (dk_at dksJ2_grow_2_2 7 rfl rfl)
theorem dJ2_grow_2_56 : decode cJ2_grow_2 56 = .ok (.putfield 9, 3) := dk_181 0 9 (dk_at dksJ2_grow_2_2 8 rfl rfl)
theorem dJ2_grow_2_59 : decode cJ2_grow_2 59 = .ok (.areturn, 1) := dk_176 (dk_at dksJ2_grow_2_2 11 rfl rfl)
abbrev cJ2_add_3 : ByteArray := prog_47_method_26_code
def yJ2_add_3 : MethodName := ⟨RJ2, "add", "(ILjava/lang/Object;)V"⟩
def dkwJ2_add_3_2 : List UInt8 := [29, 27, 100, 184, 0, 112, 25, 4, 27, 44, 83, 42, 29, 4, 96, 181, 0, 48, 177]
abbrev dktJ2_add_3_2 : List UInt8 := dkwJ2_add_3_2 ++ []
def dkwJ2_add_3_1 : List UInt8 := [180, 0, 9, 89, 58, 4, 190, 160, 0, 9, 42, 182, 0, 129, 58, 4, 25, 4, 27, 25, 4, 27, 4, 96]
abbrev dktJ2_add_3_1 : List UInt8 := dkwJ2_add_3_1 ++ dktJ2_add_3_2
def dkwJ2_add_3_0 : List UInt8 := [42, 27, 182, 0, 135, 42, 89, 180, 0, 63, 4, 96, 181, 0, 63, 42, 180, 0, 48, 89, 62, 42]
abbrev dktJ2_add_3_0 : List UInt8 := dkwJ2_add_3_0 ++ dktJ2_add_3_1
theorem dksJ2_add_3_0 : cJ2_add_3.data.toList.drop 0 = dktJ2_add_3_0 := by decide +kernel
theorem dksJ2_add_3_1 : cJ2_add_3.data.toList.drop 22 = dktJ2_add_3_1 := dk_seg dksJ2_add_3_0 22 rfl rfl
theorem dksJ2_add_3_2 : cJ2_add_3.data.toList.drop 46 = dktJ2_add_3_2 := dk_seg dksJ2_add_3_1 24 rfl rfl
theorem dJ2_add_3_0 : decode cJ2_add_3 0 = .ok (.aload_n 0, 1) := dk_42 (dk_at dksJ2_add_3_0 0 rfl rfl)
theorem dJ2_add_3_1 : decode cJ2_add_3 1 = .ok (.iload_n 1, 1) := dk_27 (dk_at dksJ2_add_3_0 1 rfl rfl)
theorem dJ2_add_3_2 : decode cJ2_add_3 2 = .ok (.invokevirtual 135, 3) := dk_182 0 135 (dk_at dksJ2_add_3_0 2 rfl rfl)
theorem dJ2_add_3_5 : decode cJ2_add_3 5 = .ok (.aload_n 0, 1) := dk_42 (dk_at dksJ2_add_3_0 5 rfl rfl)
theorem dJ2_add_3_6 : decode cJ2_add_3 6 = .ok (.dup, 1) := dk_89 (dk_at dksJ2_add_3_0 6 rfl rfl)
theorem dJ2_add_3_7 : decode cJ2_add_3 7 = .ok (.getfield 63, 3) := dk_180 0 63 (dk_at dksJ2_add_3_0 7 rfl rfl)
theorem dJ2_add_3_10 : decode cJ2_add_3 10 = .ok (.iconst 1, 1) := dk_4 (dk_at dksJ2_add_3_0 10 rfl rfl)
theorem dJ2_add_3_11 : decode cJ2_add_3 11 = .ok (.iadd, 1) := dk_96 (dk_at dksJ2_add_3_0 11 rfl rfl)
theorem dJ2_add_3_12 : decode cJ2_add_3 12 = .ok (.putfield 63, 3) := dk_181 0 63 (dk_at dksJ2_add_3_0 12 rfl rfl)
theorem dJ2_add_3_15 : decode cJ2_add_3 15 = .ok (.aload_n 0, 1) := dk_42 (dk_at dksJ2_add_3_0 15 rfl rfl)
theorem dJ2_add_3_16 : decode cJ2_add_3 16 = .ok (.getfield 48, 3) := dk_180 0 48 (dk_at dksJ2_add_3_0 16 rfl rfl)
theorem dJ2_add_3_19 : decode cJ2_add_3 19 = .ok (.dup, 1) := dk_89 (dk_at dksJ2_add_3_0 19 rfl rfl)
theorem dJ2_add_3_20 : decode cJ2_add_3 20 = .ok (.istore_n 3, 1) := dk_62 (dk_at dksJ2_add_3_0 20 rfl rfl)
theorem dJ2_add_3_21 : decode cJ2_add_3 21 = .ok (.aload_n 0, 1) := dk_42 (dk_at dksJ2_add_3_0 21 rfl rfl)
theorem dJ2_add_3_22 : decode cJ2_add_3 22 = .ok (.getfield 9, 3) := dk_180 0 9 (dk_at dksJ2_add_3_1 0 rfl rfl)
theorem dJ2_add_3_25 : decode cJ2_add_3 25 = .ok (.dup, 1) := dk_89 (dk_at dksJ2_add_3_1 3 rfl rfl)
theorem dJ2_add_3_26 : decode cJ2_add_3 26 = .ok (.astore 4, 2) := dk_58 4 (dk_at dksJ2_add_3_1 4 rfl rfl)
theorem dJ2_add_3_28 : decode cJ2_add_3 28 = .ok (.arraylength, 1) := dk_190 (dk_at dksJ2_add_3_1 6 rfl rfl)
theorem dJ2_add_3_29 : decode cJ2_add_3 29 = .ok (.if_icmp .ne 9, 3) := dk_160 0 9 (dk_at dksJ2_add_3_1 7 rfl rfl)
theorem dJ2_add_3_32 : decode cJ2_add_3 32 = .ok (.aload_n 0, 1) := dk_42 (dk_at dksJ2_add_3_1 10 rfl rfl)
theorem dJ2_add_3_33 : decode cJ2_add_3 33 = .ok (.invokevirtual 129, 3) := dk_182 0 129 (dk_at dksJ2_add_3_1 11 rfl rfl)
theorem dJ2_add_3_36 : decode cJ2_add_3 36 = .ok (.astore 4, 2) := dk_58 4 (dk_at dksJ2_add_3_1 14 rfl rfl)
theorem dJ2_add_3_38 : decode cJ2_add_3 38 = .ok (.aload 4, 2) := dk_25 4 (dk_at dksJ2_add_3_1 16 rfl rfl)
theorem dJ2_add_3_40 : decode cJ2_add_3 40 = .ok (.iload_n 1, 1) := dk_27 (dk_at dksJ2_add_3_1 18 rfl rfl)
theorem dJ2_add_3_41 : decode cJ2_add_3 41 = .ok (.aload 4, 2) := dk_25 4 (dk_at dksJ2_add_3_1 19 rfl rfl)
theorem dJ2_add_3_43 : decode cJ2_add_3 43 = .ok (.iload_n 1, 1) := dk_27 (dk_at dksJ2_add_3_1 21 rfl rfl)
theorem dJ2_add_3_44 : decode cJ2_add_3 44 = .ok (.iconst 1, 1) := dk_4 (dk_at dksJ2_add_3_1 22 rfl rfl)
theorem dJ2_add_3_45 : decode cJ2_add_3 45 = .ok (.iadd, 1) := dk_96 (dk_at dksJ2_add_3_1 23 rfl rfl)
theorem dJ2_add_3_46 : decode cJ2_add_3 46 = .ok (.iload_n 3, 1) := dk_29 (dk_at dksJ2_add_3_2 0 rfl rfl)
theorem dJ2_add_3_47 : decode cJ2_add_3 47 = .ok (.iload_n 1, 1) := dk_27 (dk_at dksJ2_add_3_2 1 rfl rfl)
theorem dJ2_add_3_48 : decode cJ2_add_3 48 = .ok (.isub, 1) := dk_100 (dk_at dksJ2_add_3_2 2 rfl rfl)
theorem dJ2_add_3_49 : decode cJ2_add_3 49 = .ok (.invokestatic 112, 3) := dk_184 0 112 (dk_at dksJ2_add_3_2 3 rfl rfl)
theorem dJ2_add_3_52 : decode cJ2_add_3 52 = .ok (.aload 4, 2) := dk_25 4 (dk_at dksJ2_add_3_2 6 rfl rfl)
theorem dJ2_add_3_54 : decode cJ2_add_3 54 = .ok (.iload_n 1, 1) := dk_27 (dk_at dksJ2_add_3_2 8 rfl rfl)
theorem dJ2_add_3_55 : decode cJ2_add_3 55 = .ok (.aload_n 2, 1) := dk_44 (dk_at dksJ2_add_3_2 9 rfl rfl)
theorem dJ2_add_3_56 : decode cJ2_add_3 56 = .ok (.aastore, 1) := dk_83 (dk_at dksJ2_add_3_2 10 rfl rfl)
theorem dJ2_add_3_57 : decode cJ2_add_3 57 = .ok (.aload_n 0, 1) := dk_42 (dk_at dksJ2_add_3_2 11 rfl rfl)
theorem dJ2_add_3_58 : decode cJ2_add_3 58 = .ok (.iload_n 3, 1) := dk_29 (dk_at dksJ2_add_3_2 12 rfl rfl)
theorem dJ2_add_3_59 : decode cJ2_add_3 59 = .ok (.iconst 1, 1) := dk_4 (dk_at dksJ2_add_3_2 13 rfl rfl)
theorem dJ2_add_3_60 : decode cJ2_add_3 60 = .ok (.iadd, 1) := dk_96 (dk_at dksJ2_add_3_2 14 rfl rfl)
theorem dJ2_add_3_61 : decode cJ2_add_3 61 = .ok (.putfield 48, 3) := dk_181 0 48 (dk_at dksJ2_add_3_2 15 rfl rfl)
theorem dJ2_add_3_64 : decode cJ2_add_3 64 = .ok (.return_, 1) := dk_177 (dk_at dksJ2_add_3_2 18 rfl rfl)
abbrev cJ2_rangeCheckForAdd : ByteArray := prog_47_method_45_code
def yJ2_rangeCheckForAdd : MethodName := ⟨RJ2, "rangeCheckForAdd", "(I)V"⟩
def dkwJ2_rangeCheckForAdd_1 : List UInt8 := [191, 177]
abbrev dktJ2_rangeCheckForAdd_1 : List UInt8 := dkwJ2_rangeCheckForAdd_1 ++ []
def dkwJ2_rangeCheckForAdd_0 : List UInt8 := [27, 42, 180, 0, 48, 163, 0, 7, 27, 156, 0, 16, 187, 0, 187, 89, 42, 27, 182, 0, 198, 183, 0, 193]
abbrev dktJ2_rangeCheckForAdd_0 : List UInt8 := dkwJ2_rangeCheckForAdd_0 ++ dktJ2_rangeCheckForAdd_1
theorem dksJ2_rangeCheckForAdd_0 : cJ2_rangeCheckForAdd.data.toList.drop 0 = dktJ2_rangeCheckForAdd_0 := by decide +kernel
theorem dksJ2_rangeCheckForAdd_1 : cJ2_rangeCheckForAdd.data.toList.drop 24 = dktJ2_rangeCheckForAdd_1 := dk_seg dksJ2_rangeCheckForAdd_0 24 rfl rfl
theorem dJ2_rangeCheckForAdd_0 : decode cJ2_rangeCheckForAdd 0 = .ok (.iload_n 1, 1) := dk_27 (dk_at dksJ2_rangeCheckForAdd_0 0 rfl rfl)
theorem dJ2_rangeCheckForAdd_1 : decode cJ2_rangeCheckForAdd 1 = .ok (.aload_n 0, 1) := dk_42 (dk_at dksJ2_rangeCheckForAdd_0 1 rfl rfl)
theorem dJ2_rangeCheckForAdd_2 : decode cJ2_rangeCheckForAdd 2 = .ok (.getfield 48, 3) := dk_180 0 48 (dk_at dksJ2_rangeCheckForAdd_0 2 rfl rfl)
theorem dJ2_rangeCheckForAdd_5 : decode cJ2_rangeCheckForAdd 5 = .ok (.if_icmp .gt 7, 3) := dk_163 0 7 (dk_at dksJ2_rangeCheckForAdd_0 5 rfl rfl)
theorem dJ2_rangeCheckForAdd_8 : decode cJ2_rangeCheckForAdd 8 = .ok (.iload_n 1, 1) := dk_27 (dk_at dksJ2_rangeCheckForAdd_0 8 rfl rfl)
theorem dJ2_rangeCheckForAdd_9 : decode cJ2_rangeCheckForAdd 9 = .ok (.ifCond .ge 16, 3) := dk_156 0 16 (dk_at dksJ2_rangeCheckForAdd_0 9 rfl rfl)
theorem dJ2_rangeCheckForAdd_12 : decode cJ2_rangeCheckForAdd 12 = .ok (.new 187, 3) := dk_187 0 187 (dk_at dksJ2_rangeCheckForAdd_0 12 rfl rfl)
theorem dJ2_rangeCheckForAdd_15 : decode cJ2_rangeCheckForAdd 15 = .ok (.dup, 1) := dk_89 (dk_at dksJ2_rangeCheckForAdd_0 15 rfl rfl)
theorem dJ2_rangeCheckForAdd_16 : decode cJ2_rangeCheckForAdd 16 = .ok (.aload_n 0, 1) := dk_42 (dk_at dksJ2_rangeCheckForAdd_0 16 rfl rfl)
theorem dJ2_rangeCheckForAdd_17 : decode cJ2_rangeCheckForAdd 17 = .ok (.iload_n 1, 1) := dk_27 (dk_at dksJ2_rangeCheckForAdd_0 17 rfl rfl)
theorem dJ2_rangeCheckForAdd_18 : decode cJ2_rangeCheckForAdd 18 = .ok (.invokevirtual 198, 3) := dk_182 0 198 (dk_at dksJ2_rangeCheckForAdd_0 18 rfl rfl)
theorem dJ2_rangeCheckForAdd_21 : decode cJ2_rangeCheckForAdd 21 = .ok (.invokespecial 193, 3) := dk_183 0 193 (dk_at dksJ2_rangeCheckForAdd_0 21 rfl rfl)
theorem dJ2_rangeCheckForAdd_24 : decode cJ2_rangeCheckForAdd 24 = .ok (.athrow, 1) := dk_191 (dk_at dksJ2_rangeCheckForAdd_1 0 rfl rfl)
theorem dJ2_rangeCheckForAdd_25 : decode cJ2_rangeCheckForAdd 25 = .ok (.return_, 1) := dk_177 (dk_at dksJ2_rangeCheckForAdd_1 1 rfl rfl)
abbrev cJ2_iterator : ByteArray := prog_47_method_55_code
def yJ2_iterator : MethodName := ⟨RJ2, "iterator", "()Ljava/util/Iterator;"⟩
def dkwJ2_iterator_0 : List UInt8 := [187, 1, 11, 89, 42, 183, 1, 13, 176]
abbrev dktJ2_iterator_0 : List UInt8 := dkwJ2_iterator_0 ++ []
theorem dksJ2_iterator_0 : cJ2_iterator.data.toList.drop 0 = dktJ2_iterator_0 := by decide +kernel
theorem dJ2_iterator_0 : decode cJ2_iterator 0 = .ok (.new 267, 3) := dk_187 1 11 (dk_at dksJ2_iterator_0 0 rfl rfl)
theorem dJ2_iterator_3 : decode cJ2_iterator 3 = .ok (.dup, 1) := dk_89 (dk_at dksJ2_iterator_0 3 rfl rfl)
theorem dJ2_iterator_4 : decode cJ2_iterator 4 = .ok (.aload_n 0, 1) := dk_42 (dk_at dksJ2_iterator_0 4 rfl rfl)
theorem dJ2_iterator_5 : decode cJ2_iterator 5 = .ok (.invokespecial 269, 3) := dk_183 1 13 (dk_at dksJ2_iterator_0 5 rfl rfl)
theorem dJ2_iterator_8 : decode cJ2_iterator 8 = .ok (.areturn, 1) := dk_176 (dk_at dksJ2_iterator_0 8 rfl rfl)
abbrev cJ2_listIterator : ByteArray := prog_47_method_53_code
def yJ2_listIterator : MethodName := ⟨RJ2, "listIterator", "(I)Ljava/util/ListIterator;"⟩
def dkwJ2_listIterator_0 : List UInt8 := [42, 27, 182, 0, 135, 187, 1, 6, 89, 42, 27, 183, 1, 8, 176]
abbrev dktJ2_listIterator_0 : List UInt8 := dkwJ2_listIterator_0 ++ []
theorem dksJ2_listIterator_0 : cJ2_listIterator.data.toList.drop 0 = dktJ2_listIterator_0 := by decide +kernel
theorem dJ2_listIterator_0 : decode cJ2_listIterator 0 = .ok (.aload_n 0, 1) := dk_42 (dk_at dksJ2_listIterator_0 0 rfl rfl)
theorem dJ2_listIterator_1 : decode cJ2_listIterator 1 = .ok (.iload_n 1, 1) := dk_27 (dk_at dksJ2_listIterator_0 1 rfl rfl)
theorem dJ2_listIterator_2 : decode cJ2_listIterator 2 = .ok (.invokevirtual 135, 3) := dk_182 0 135 (dk_at dksJ2_listIterator_0 2 rfl rfl)
theorem dJ2_listIterator_5 : decode cJ2_listIterator 5 = .ok (.new 262, 3) := dk_187 1 6 (dk_at dksJ2_listIterator_0 5 rfl rfl)
theorem dJ2_listIterator_8 : decode cJ2_listIterator 8 = .ok (.dup, 1) := dk_89 (dk_at dksJ2_listIterator_0 8 rfl rfl)
theorem dJ2_listIterator_9 : decode cJ2_listIterator 9 = .ok (.aload_n 0, 1) := dk_42 (dk_at dksJ2_listIterator_0 9 rfl rfl)
theorem dJ2_listIterator_10 : decode cJ2_listIterator 10 = .ok (.iload_n 1, 1) := dk_27 (dk_at dksJ2_listIterator_0 10 rfl rfl)
theorem dJ2_listIterator_11 : decode cJ2_listIterator 11 = .ok (.invokespecial 264, 3) := dk_183 1 8 (dk_at dksJ2_listIterator_0 11 rfl rfl)
theorem dJ2_listIterator_14 : decode cJ2_listIterator 14 = .ok (.areturn, 1) := dk_176 (dk_at dksJ2_listIterator_0 14 rfl rfl)
theorem q136 : (Jvm.Cond.initialized "java/util/ArrayList") ∈ lw_all := lw_g (lw_at lw_m1 5 rfl) rfl
theorem q199 : (Jvm.Cond.instantiable "java/util/ArrayList" (3 : Nat)) ∈ lw_all := lw_g (lw_at lw_m1 68 rfl) rfl
theorem q201 : (Jvm.Cond.instanceMethod ({ cls := "java/util/ArrayList", name := "<init>", desc := "()V" } : Jvm.MethodName)) ∈ lw_all := lw_g (lw_at lw_m1 70 rfl) rfl
theorem q202 : (Jvm.Cond.code ({ cls := "java/util/ArrayList", name := "<init>", desc := "()V" } : Jvm.MethodName) prog_47_method_2_code (1 : Nat) (Option.none : Option Jvm.ClassFile.FieldType)) ∈ lw_all := lw_g (lw_at lw_m1 71 rfl) rfl
theorem q203 : (Jvm.Cond.methodLink "java/util/ArrayList" (1 : Nat) ({ cls := "java/util/AbstractList", name := "<init>", desc := "()V" } : Jvm.MethodName)) ∈ lw_all := lw_g (lw_at lw_m1 72 rfl) rfl
theorem q210 : (Jvm.Cond.fieldLink "java/util/ArrayList" (39 : Nat) "java/util/ArrayList" "DEFAULTCAPACITY_EMPTY_ELEMENTDATA" "[Ljava/lang/Object;") ∈ lw_all := lw_g (lw_at lw_m1 79 rfl) rfl
theorem q211 : (Jvm.Cond.laysStatic "java/util/ArrayList" "DEFAULTCAPACITY_EMPTY_ELEMENTDATA" "[Ljava/lang/Object;") ∈ lw_tbl := lw_at lw_m1 80 rfl
theorem q212 : (Jvm.Cond.fieldLink "java/util/ArrayList" (9 : Nat) "java/util/ArrayList" "elementData" "[Ljava/lang/Object;") ∈ lw_all := lw_g (lw_at lw_m1 81 rfl) rfl
theorem q215 : (Jvm.Cond.fieldLink "java/util/ArrayList" (48 : Nat) "java/util/ArrayList" "size" "I") ∈ lw_all := lw_g (lw_at lw_m1 84 rfl) rfl
theorem q220 : (Jvm.Cond.sameField "java/util/ArrayList" "java/util/AbstractList" "modCount" "I") ∈ lw_all := lw_g (lw_at lw_m1 89 rfl) rfl
theorem q223 : (Jvm.Cond.fieldLink "java/util/ArrayList" (63 : Nat) "java/util/ArrayList" "modCount" "I") ∈ lw_all := lw_g (lw_at lw_m1 92 rfl) rfl
theorem q224 : (Jvm.Cond.lays "java/util/ArrayList" "java/util/ArrayList" "elementData" "[Ljava/lang/Object;") ∈ lw_all := lw_g (lw_at lw_m1 93 rfl) rfl
theorem q225 : (Jvm.Cond.soleField "java/util/ArrayList" "elementData") ∈ lw_all := lw_g (lw_at lw_m1 94 rfl) rfl
theorem q226 : (Jvm.Cond.lays "java/util/ArrayList" "java/util/ArrayList" "size" "I") ∈ lw_all := lw_g (lw_at lw_m1 95 rfl) rfl
theorem q227 : (Jvm.Cond.soleField "java/util/ArrayList" "size") ∈ lw_all := lw_g (lw_at lw_m1 96 rfl) rfl
theorem q228 : (Jvm.Cond.lays "java/util/ArrayList" "java/util/AbstractList" "modCount" "I") ∈ lw_all := lw_g (lw_at lw_m1 97 rfl) rfl
theorem q230 : (Jvm.Cond.superclass "java/util/ArrayList" "java/util/AbstractList") ∈ lw_all := lw_g (lw_at lw_m1 99 rfl) rfl
theorem q619 : (Jvm.Cond.castable "java/util/ArrayList" "java/util/List") ∈ lw_tbl := lw_at lw_m3 8 rfl
theorem q620 : (Jvm.Cond.selects "java/util/ArrayList" ({ cls := "java/util/List", name := "size", desc := "()I" } : Jvm.MethodName) ({ cls := "java/util/ArrayList", name := "size", desc := "()I" } : Jvm.MethodName)) ∈ lw_all := lw_g (lw_at lw_m3 9 rfl) rfl
theorem q621 : (Jvm.Cond.unhidden "java/util/ArrayList" "size" "()I") ∈ lw_tbl := lw_at lw_m3 10 rfl
theorem q622 : (Jvm.Cond.instanceMethod ({ cls := "java/util/ArrayList", name := "size", desc := "()I" } : Jvm.MethodName)) ∈ lw_all := lw_g (lw_at lw_m3 11 rfl) rfl
theorem q623 : (Jvm.Cond.publicMethod ({ cls := "java/util/ArrayList", name := "size", desc := "()I" } : Jvm.MethodName)) ∈ lw_tbl := lw_at lw_m3 12 rfl
theorem q624 : (Jvm.Cond.code ({ cls := "java/util/ArrayList", name := "size", desc := "()I" } : Jvm.MethodName) prog_47_method_8_code (1 : Nat) (Option.some Jvm.ClassFile.FieldType.int)) ∈ lw_all := lw_g (lw_at lw_m3 13 rfl) rfl
theorem q641 : (Jvm.Cond.selects "java/util/ArrayList" ({ cls := "java/util/List", name := "clear", desc := "()V" } : Jvm.MethodName) ({ cls := "java/util/ArrayList", name := "clear", desc := "()V" } : Jvm.MethodName)) ∈ lw_all := lw_g (lw_at lw_m3 30 rfl) rfl
theorem q642 : (Jvm.Cond.unhidden "java/util/ArrayList" "clear" "()V") ∈ lw_tbl := lw_at lw_m3 31 rfl
theorem q643 : (Jvm.Cond.instanceMethod ({ cls := "java/util/ArrayList", name := "clear", desc := "()V" } : Jvm.MethodName)) ∈ lw_all := lw_g (lw_at lw_m3 32 rfl) rfl
theorem q644 : (Jvm.Cond.publicMethod ({ cls := "java/util/ArrayList", name := "clear", desc := "()V" } : Jvm.MethodName)) ∈ lw_tbl := lw_at lw_m3 33 rfl
theorem q645 : (Jvm.Cond.code ({ cls := "java/util/ArrayList", name := "clear", desc := "()V" } : Jvm.MethodName) prog_47_method_40_code (4 : Nat) (Option.none : Option Jvm.ClassFile.FieldType)) ∈ lw_all := lw_g (lw_at lw_m3 34 rfl) rfl
theorem q664 : (Jvm.Cond.selects "java/util/ArrayList" ({ cls := "java/util/List", name := "isEmpty", desc := "()Z" } : Jvm.MethodName) ({ cls := "java/util/ArrayList", name := "isEmpty", desc := "()Z" } : Jvm.MethodName)) ∈ lw_all := lw_g (lw_at lw_m3 53 rfl) rfl
theorem q665 : (Jvm.Cond.unhidden "java/util/ArrayList" "isEmpty" "()Z") ∈ lw_tbl := lw_at lw_m3 54 rfl
theorem q666 : (Jvm.Cond.instanceMethod ({ cls := "java/util/ArrayList", name := "isEmpty", desc := "()Z" } : Jvm.MethodName)) ∈ lw_all := lw_g (lw_at lw_m3 55 rfl) rfl
theorem q667 : (Jvm.Cond.publicMethod ({ cls := "java/util/ArrayList", name := "isEmpty", desc := "()Z" } : Jvm.MethodName)) ∈ lw_tbl := lw_at lw_m3 56 rfl
theorem q668 : (Jvm.Cond.code ({ cls := "java/util/ArrayList", name := "isEmpty", desc := "()Z" } : Jvm.MethodName) prog_47_method_9_code (1 : Nat) (Option.some Jvm.ClassFile.FieldType.boolean)) ∈ lw_all := lw_g (lw_at lw_m3 57 rfl) rfl
theorem q688 : (Jvm.Cond.selects "java/util/ArrayList" ({ cls := "java/util/AbstractCollection", name := "size", desc := "()I" } : Jvm.MethodName) ({ cls := "java/util/ArrayList", name := "size", desc := "()I" } : Jvm.MethodName)) ∈ lw_all := lw_g (lw_at lw_m3 77 rfl) rfl
theorem q695 : (Jvm.Cond.selects "java/util/ArrayList" ({ cls := "java/util/List", name := "remove", desc := "(I)Ljava/lang/Object;" } : Jvm.MethodName) ({ cls := "java/util/ArrayList", name := "remove", desc := "(I)Ljava/lang/Object;" } : Jvm.MethodName)) ∈ lw_all := lw_g (lw_at lw_m3 84 rfl) rfl
theorem q696 : (Jvm.Cond.unhidden "java/util/ArrayList" "remove" "(I)Ljava/lang/Object;") ∈ lw_tbl := lw_at lw_m3 85 rfl
theorem q697 : (Jvm.Cond.instanceMethod ({ cls := "java/util/ArrayList", name := "remove", desc := "(I)Ljava/lang/Object;" } : Jvm.MethodName)) ∈ lw_all := lw_g (lw_at lw_m3 86 rfl) rfl
theorem q698 : (Jvm.Cond.publicMethod ({ cls := "java/util/ArrayList", name := "remove", desc := "(I)Ljava/lang/Object;" } : Jvm.MethodName)) ∈ lw_tbl := lw_at lw_m3 87 rfl
theorem q699 : (Jvm.Cond.code ({ cls := "java/util/ArrayList", name := "remove", desc := "(I)Ljava/lang/Object;" } : Jvm.MethodName) prog_47_method_29_code (4 : Nat) (Option.some (Jvm.ClassFile.FieldType.object "java/lang/Object"))) ∈ lw_all := lw_g (lw_at lw_m3 88 rfl) rfl
theorem q700 : (Jvm.Cond.methodLink "java/util/ArrayList" (118 : Nat) ({ cls := "java/util/Objects", name := "checkIndex", desc := "(II)I" } : Jvm.MethodName)) ∈ lw_all := lw_g (lw_at lw_m3 89 rfl) rfl
theorem q706 : (Jvm.Cond.methodLink "java/util/ArrayList" (144 : Nat) ({ cls := "java/util/ArrayList", name := "fastRemove", desc := "([Ljava/lang/Object;I)V" } : Jvm.MethodName)) ∈ lw_all := lw_g (lw_at lw_m3 95 rfl) rfl
theorem q707 : (Jvm.Cond.privateMethod ({ cls := "java/util/ArrayList", name := "fastRemove", desc := "([Ljava/lang/Object;I)V" } : Jvm.MethodName)) ∈ lw_tbl := lw_at lw_m3 96 rfl
theorem q708 : (Jvm.Cond.instanceMethod ({ cls := "java/util/ArrayList", name := "fastRemove", desc := "([Ljava/lang/Object;I)V" } : Jvm.MethodName)) ∈ lw_all := lw_g (lw_at lw_m3 97 rfl) rfl
theorem q709 : (Jvm.Cond.code ({ cls := "java/util/ArrayList", name := "fastRemove", desc := "([Ljava/lang/Object;I)V" } : Jvm.MethodName) prog_47_method_39_code (4 : Nat) (Option.none : Option Jvm.ClassFile.FieldType)) ∈ lw_all := lw_g (lw_at lw_m3 98 rfl) rfl
theorem q710 : (Jvm.Cond.methodLink "java/util/ArrayList" (112 : Nat) ({ cls := "java/lang/System", name := "arraycopy", desc := "(Ljava/lang/Object;ILjava/lang/Object;II)V" } : Jvm.MethodName)) ∈ lw_all := lw_g (lw_at lw_m3 99 rfl) rfl
theorem q751 : (Jvm.Cond.selects "java/util/ArrayList" ({ cls := "java/util/List", name := "get", desc := "(I)Ljava/lang/Object;" } : Jvm.MethodName) ({ cls := "java/util/ArrayList", name := "get", desc := "(I)Ljava/lang/Object;" } : Jvm.MethodName)) ∈ lw_all := lw_g (lw_at lw_m3 140 rfl) rfl
theorem q752 : (Jvm.Cond.unhidden "java/util/ArrayList" "get" "(I)Ljava/lang/Object;") ∈ lw_tbl := lw_at lw_m3 141 rfl
theorem q753 : (Jvm.Cond.instanceMethod ({ cls := "java/util/ArrayList", name := "get", desc := "(I)Ljava/lang/Object;" } : Jvm.MethodName)) ∈ lw_all := lw_g (lw_at lw_m3 142 rfl) rfl
theorem q754 : (Jvm.Cond.publicMethod ({ cls := "java/util/ArrayList", name := "get", desc := "(I)Ljava/lang/Object;" } : Jvm.MethodName)) ∈ lw_tbl := lw_at lw_m3 143 rfl
theorem q755 : (Jvm.Cond.code ({ cls := "java/util/ArrayList", name := "get", desc := "(I)Ljava/lang/Object;" } : Jvm.MethodName) prog_47_method_20_code (2 : Nat) (Option.some (Jvm.ClassFile.FieldType.object "java/lang/Object"))) ∈ lw_all := lw_g (lw_at lw_m3 144 rfl) rfl
theorem q756 : (Jvm.Cond.methodLink "java/util/ArrayList" (123 : Nat) ({ cls := "java/util/ArrayList", name := "elementData", desc := "(I)Ljava/lang/Object;" } : Jvm.MethodName)) ∈ lw_all := lw_g (lw_at lw_m3 145 rfl) rfl
theorem q757 : (Jvm.Cond.instanceMethod ({ cls := "java/util/ArrayList", name := "elementData", desc := "(I)Ljava/lang/Object;" } : Jvm.MethodName)) ∈ lw_all := lw_g (lw_at lw_m3 146 rfl) rfl
theorem q758 : (Jvm.Cond.selects "java/util/ArrayList" ({ cls := "java/util/ArrayList", name := "elementData", desc := "(I)Ljava/lang/Object;" } : Jvm.MethodName) ({ cls := "java/util/ArrayList", name := "elementData", desc := "(I)Ljava/lang/Object;" } : Jvm.MethodName)) ∈ lw_all := lw_g (lw_at lw_m3 147 rfl) rfl
theorem q759 : (Jvm.Cond.code ({ cls := "java/util/ArrayList", name := "elementData", desc := "(I)Ljava/lang/Object;" } : Jvm.MethodName) prog_47_method_18_code (2 : Nat) (Option.some (Jvm.ClassFile.FieldType.object "java/lang/Object"))) ∈ lw_all := lw_g (lw_at lw_m3 148 rfl) rfl
theorem q785 : (Jvm.Cond.selects "java/util/ArrayList" ({ cls := "java/util/List", name := "add", desc := "(Ljava/lang/Object;)Z" } : Jvm.MethodName) ({ cls := "java/util/ArrayList", name := "add", desc := "(Ljava/lang/Object;)Z" } : Jvm.MethodName)) ∈ lw_all := lw_g (lw_at lw_m3 174 rfl) rfl
theorem q786 : (Jvm.Cond.unhidden "java/util/ArrayList" "add" "(Ljava/lang/Object;)Z") ∈ lw_tbl := lw_at lw_m3 175 rfl
theorem q787 : (Jvm.Cond.instanceMethod ({ cls := "java/util/ArrayList", name := "add", desc := "(Ljava/lang/Object;)Z" } : Jvm.MethodName)) ∈ lw_all := lw_g (lw_at lw_m3 176 rfl) rfl
theorem q788 : (Jvm.Cond.publicMethod ({ cls := "java/util/ArrayList", name := "add", desc := "(Ljava/lang/Object;)Z" } : Jvm.MethodName)) ∈ lw_tbl := lw_at lw_m3 177 rfl
theorem q789 : (Jvm.Cond.code ({ cls := "java/util/ArrayList", name := "add", desc := "(Ljava/lang/Object;)Z" } : Jvm.MethodName) prog_47_method_25_code (2 : Nat) (Option.some Jvm.ClassFile.FieldType.boolean)) ∈ lw_all := lw_g (lw_at lw_m3 178 rfl) rfl
theorem q790 : (Jvm.Cond.methodLink "java/util/ArrayList" (131 : Nat) ({ cls := "java/util/ArrayList", name := "add", desc := "(Ljava/lang/Object;[Ljava/lang/Object;I)V" } : Jvm.MethodName)) ∈ lw_all := lw_g (lw_at lw_m3 179 rfl) rfl
theorem q791 : (Jvm.Cond.privateMethod ({ cls := "java/util/ArrayList", name := "add", desc := "(Ljava/lang/Object;[Ljava/lang/Object;I)V" } : Jvm.MethodName)) ∈ lw_tbl := lw_at lw_m3 180 rfl
theorem q792 : (Jvm.Cond.instanceMethod ({ cls := "java/util/ArrayList", name := "add", desc := "(Ljava/lang/Object;[Ljava/lang/Object;I)V" } : Jvm.MethodName)) ∈ lw_all := lw_g (lw_at lw_m3 181 rfl) rfl
theorem q793 : (Jvm.Cond.code ({ cls := "java/util/ArrayList", name := "add", desc := "(Ljava/lang/Object;[Ljava/lang/Object;I)V" } : Jvm.MethodName) prog_47_method_24_code (4 : Nat) (Option.none : Option Jvm.ClassFile.FieldType)) ∈ lw_all := lw_g (lw_at lw_m3 182 rfl) rfl
theorem q794 : (Jvm.Cond.methodLink "java/util/ArrayList" (129 : Nat) ({ cls := "java/util/ArrayList", name := "grow", desc := "()[Ljava/lang/Object;" } : Jvm.MethodName)) ∈ lw_all := lw_g (lw_at lw_m3 183 rfl) rfl
theorem q795 : (Jvm.Cond.privateMethod ({ cls := "java/util/ArrayList", name := "grow", desc := "()[Ljava/lang/Object;" } : Jvm.MethodName)) ∈ lw_tbl := lw_at lw_m3 184 rfl
theorem q796 : (Jvm.Cond.instanceMethod ({ cls := "java/util/ArrayList", name := "grow", desc := "()[Ljava/lang/Object;" } : Jvm.MethodName)) ∈ lw_all := lw_g (lw_at lw_m3 185 rfl) rfl
theorem q797 : (Jvm.Cond.code ({ cls := "java/util/ArrayList", name := "grow", desc := "()[Ljava/lang/Object;" } : Jvm.MethodName) prog_47_method_7_code (1 : Nat) (Option.some (Jvm.ClassFile.FieldType.array (Jvm.ClassFile.FieldType.object "java/lang/Object")))) ∈ lw_all := lw_g (lw_at lw_m3 186 rfl) rfl
theorem q798 : (Jvm.Cond.methodLink "java/util/ArrayList" (69 : Nat) ({ cls := "java/util/ArrayList", name := "grow", desc := "(I)[Ljava/lang/Object;" } : Jvm.MethodName)) ∈ lw_all := lw_g (lw_at lw_m3 187 rfl) rfl
theorem q799 : (Jvm.Cond.privateMethod ({ cls := "java/util/ArrayList", name := "grow", desc := "(I)[Ljava/lang/Object;" } : Jvm.MethodName)) ∈ lw_tbl := lw_at lw_m3 188 rfl
theorem q800 : (Jvm.Cond.instanceMethod ({ cls := "java/util/ArrayList", name := "grow", desc := "(I)[Ljava/lang/Object;" } : Jvm.MethodName)) ∈ lw_all := lw_g (lw_at lw_m3 189 rfl) rfl
theorem q801 : (Jvm.Cond.code ({ cls := "java/util/ArrayList", name := "grow", desc := "(I)[Ljava/lang/Object;" } : Jvm.MethodName) prog_47_method_6_code (4 : Nat) (Option.some (Jvm.ClassFile.FieldType.array (Jvm.ClassFile.FieldType.object "java/lang/Object")))) ∈ lw_all := lw_g (lw_at lw_m3 190 rfl) rfl
theorem q802 : (Jvm.Cond.methodLink "java/util/ArrayList" (73 : Nat) ({ cls := "jdk/internal/util/ArraysSupport", name := "newLength", desc := "(III)I" } : Jvm.MethodName)) ∈ lw_all := lw_g (lw_at lw_m3 191 rfl) rfl
theorem q810 : (Jvm.Cond.methodLink "java/util/ArrayList" (66 : Nat) ({ cls := "java/util/Arrays", name := "copyOf", desc := "([Ljava/lang/Object;I)[Ljava/lang/Object;" } : Jvm.MethodName)) ∈ lw_all := lw_g (lw_at lw_m3 199 rfl) rfl
theorem q836 : (Jvm.Cond.selects "java/util/ArrayList" ({ cls := "java/lang/Object", name := "getClass", desc := "()Ljava/lang/Class;" } : Jvm.MethodName) ({ cls := "java/lang/Object", name := "getClass", desc := "()Ljava/lang/Class;" } : Jvm.MethodName)) ∈ lw_all := lw_g (lw_at lw_m3 225 rfl) rfl
theorem q853 : (Jvm.Cond.methodLink "java/util/ArrayList" (79 : Nat) ({ cls := "java/lang/Math", name := "max", desc := "(II)I" } : Jvm.MethodName)) ∈ lw_all := lw_g (lw_at lw_m4 2 rfl) rfl
theorem q854 : (Jvm.Cond.classLink "java/util/ArrayList" (7 : Nat) "java/lang/Object") ∈ lw_all := lw_g (lw_at lw_m4 3 rfl) rfl
theorem q971 : (Jvm.Cond.selects "java/util/ArrayList" ({ cls := "java/util/List", name := "add", desc := "(ILjava/lang/Object;)V" } : Jvm.MethodName) ({ cls := "java/util/ArrayList", name := "add", desc := "(ILjava/lang/Object;)V" } : Jvm.MethodName)) ∈ lw_all := lw_g (lw_at lw_m4 120 rfl) rfl
theorem q972 : (Jvm.Cond.unhidden "java/util/ArrayList" "add" "(ILjava/lang/Object;)V") ∈ lw_tbl := lw_at lw_m4 121 rfl
theorem q973 : (Jvm.Cond.instanceMethod ({ cls := "java/util/ArrayList", name := "add", desc := "(ILjava/lang/Object;)V" } : Jvm.MethodName)) ∈ lw_all := lw_g (lw_at lw_m4 122 rfl) rfl
theorem q974 : (Jvm.Cond.publicMethod ({ cls := "java/util/ArrayList", name := "add", desc := "(ILjava/lang/Object;)V" } : Jvm.MethodName)) ∈ lw_tbl := lw_at lw_m4 123 rfl
theorem q975 : (Jvm.Cond.code ({ cls := "java/util/ArrayList", name := "add", desc := "(ILjava/lang/Object;)V" } : Jvm.MethodName) prog_47_method_26_code (5 : Nat) (Option.none : Option Jvm.ClassFile.FieldType)) ∈ lw_all := lw_g (lw_at lw_m4 124 rfl) rfl
theorem q976 : (Jvm.Cond.methodLink "java/util/ArrayList" (135 : Nat) ({ cls := "java/util/ArrayList", name := "rangeCheckForAdd", desc := "(I)V" } : Jvm.MethodName)) ∈ lw_all := lw_g (lw_at lw_m4 125 rfl) rfl
theorem q977 : (Jvm.Cond.privateMethod ({ cls := "java/util/ArrayList", name := "rangeCheckForAdd", desc := "(I)V" } : Jvm.MethodName)) ∈ lw_tbl := lw_at lw_m4 126 rfl
theorem q978 : (Jvm.Cond.instanceMethod ({ cls := "java/util/ArrayList", name := "rangeCheckForAdd", desc := "(I)V" } : Jvm.MethodName)) ∈ lw_all := lw_g (lw_at lw_m4 127 rfl) rfl
theorem q979 : (Jvm.Cond.code ({ cls := "java/util/ArrayList", name := "rangeCheckForAdd", desc := "(I)V" } : Jvm.MethodName) prog_47_method_45_code (2 : Nat) (Option.none : Option Jvm.ClassFile.FieldType)) ∈ lw_all := lw_g (lw_at lw_m4 128 rfl) rfl
theorem q1205 : (Jvm.Cond.selects "java/util/ArrayList" ({ cls := "java/util/List", name := "iterator", desc := "()Ljava/util/Iterator;" } : Jvm.MethodName) ({ cls := "java/util/ArrayList", name := "iterator", desc := "()Ljava/util/Iterator;" } : Jvm.MethodName)) ∈ lw_all := lw_g (lw_at lw_m5 114 rfl) rfl
theorem q1206 : (Jvm.Cond.unhidden "java/util/ArrayList" "iterator" "()Ljava/util/Iterator;") ∈ lw_tbl := lw_at lw_m5 115 rfl
theorem q1207 : (Jvm.Cond.instanceMethod ({ cls := "java/util/ArrayList", name := "iterator", desc := "()Ljava/util/Iterator;" } : Jvm.MethodName)) ∈ lw_all := lw_g (lw_at lw_m5 116 rfl) rfl
theorem q1208 : (Jvm.Cond.publicMethod ({ cls := "java/util/ArrayList", name := "iterator", desc := "()Ljava/util/Iterator;" } : Jvm.MethodName)) ∈ lw_tbl := lw_at lw_m5 117 rfl
theorem q1209 : (Jvm.Cond.code ({ cls := "java/util/ArrayList", name := "iterator", desc := "()Ljava/util/Iterator;" } : Jvm.MethodName) prog_47_method_55_code (1 : Nat) (Option.some (Jvm.ClassFile.FieldType.object "java/util/Iterator"))) ∈ lw_all := lw_g (lw_at lw_m5 118 rfl) rfl
theorem q1210 : (Jvm.Cond.classLink "java/util/ArrayList" (267 : Nat) "java/util/ArrayList$Itr") ∈ lw_all := lw_g (lw_at lw_m5 119 rfl) rfl
theorem q1212 : (Jvm.Cond.methodLink "java/util/ArrayList" (269 : Nat) ({ cls := "java/util/ArrayList$Itr", name := "<init>", desc := "(Ljava/util/ArrayList;)V" } : Jvm.MethodName)) ∈ lw_all := lw_g (lw_at lw_m5 121 rfl) rfl
theorem q1272 : (Jvm.Cond.selects "java/util/ArrayList" ({ cls := "java/util/AbstractList", name := "listIterator", desc := "(I)Ljava/util/ListIterator;" } : Jvm.MethodName) ({ cls := "java/util/ArrayList", name := "listIterator", desc := "(I)Ljava/util/ListIterator;" } : Jvm.MethodName)) ∈ lw_all := lw_g (lw_at lw_m5 181 rfl) rfl
theorem q1273 : (Jvm.Cond.instanceMethod ({ cls := "java/util/ArrayList", name := "listIterator", desc := "(I)Ljava/util/ListIterator;" } : Jvm.MethodName)) ∈ lw_all := lw_g (lw_at lw_m5 182 rfl) rfl
theorem q1274 : (Jvm.Cond.code ({ cls := "java/util/ArrayList", name := "listIterator", desc := "(I)Ljava/util/ListIterator;" } : Jvm.MethodName) prog_47_method_53_code (2 : Nat) (Option.some (Jvm.ClassFile.FieldType.object "java/util/ListIterator"))) ∈ lw_all := lw_g (lw_at lw_m5 183 rfl) rfl
theorem q1275 : (Jvm.Cond.classLink "java/util/ArrayList" (262 : Nat) "java/util/ArrayList$ListItr") ∈ lw_all := lw_g (lw_at lw_m5 184 rfl) rfl
theorem q1277 : (Jvm.Cond.methodLink "java/util/ArrayList" (264 : Nat) ({ cls := "java/util/ArrayList$ListItr", name := "<init>", desc := "(Ljava/util/ArrayList;I)V" } : Jvm.MethodName)) ∈ lw_all := lw_g (lw_at lw_m5 186 rfl) rfl
theorem q1328 : (Jvm.Cond.selects "java/util/ArrayList" ({ cls := "java/util/AbstractList", name := "size", desc := "()I" } : Jvm.MethodName) ({ cls := "java/util/ArrayList", name := "size", desc := "()I" } : Jvm.MethodName)) ∈ lw_all := lw_g (lw_at lw_m5 237 rfl) rfl
theorem q1368 : (Jvm.Cond.selects "java/util/ArrayList" ({ cls := "java/util/AbstractList", name := "get", desc := "(I)Ljava/lang/Object;" } : Jvm.MethodName) ({ cls := "java/util/ArrayList", name := "get", desc := "(I)Ljava/lang/Object;" } : Jvm.MethodName)) ∈ lw_all := lw_g (lw_at lw_m6 37 rfl) rfl
theorem q1657 : (Jvm.Cond.selects "java/util/ArrayList" ({ cls := "java/util/AbstractList", name := "remove", desc := "(I)Ljava/lang/Object;" } : Jvm.MethodName) ({ cls := "java/util/ArrayList", name := "remove", desc := "(I)Ljava/lang/Object;" } : Jvm.MethodName)) ∈ lw_all := lw_g (lw_at lw_m7 86 rfl) rfl
theorem q2986 : (Jvm.Cond.selects "java/util/ArrayList" ({ cls := "java/util/ArrayList", name := "remove", desc := "(I)Ljava/lang/Object;" } : Jvm.MethodName) ({ cls := "java/util/ArrayList", name := "remove", desc := "(I)Ljava/lang/Object;" } : Jvm.MethodName)) ∈ lw_all := lw_g (lw_at lw_m12 215 rfl) rfl
theorem q3001 : (Jvm.Cond.castable "java/util/ArrayList" "java/lang/Object") ∈ lw_tbl := lw_at lw_m12 230 rfl
theorem in_J2 : ∀ w ∈ wsJ20, w ∈ lw_all := lw_in wsJ20 [228, 224, 226] (by decide +kernel) (by decide +kernel)
/-! java/lang/Long -/
set_option maxRecDepth 100000
def RJ20 : String := "java/lang/Long"
abbrev cJ20_bitCount : ByteArray := prog_29_method_50_code
def yJ20_bitCount : MethodName := ⟨RJ20, "bitCount", "(J)I"⟩
def dkwJ20_bitCount_2 : List UInt8 := [30, 30, 16, 32, 125, 97, 63, 30, 136, 16, 127, 126, 172]
abbrev dktJ20_bitCount_2 : List UInt8 := dkwJ20_bitCount_2 ++ []
def dkwJ20_bitCount_1 : List UInt8 := [30, 30, 7, 125, 97, 20, 1, 62, 127, 63, 30, 30, 16, 8, 125, 97, 63, 30, 30, 16, 16, 125, 97, 63]
abbrev dktJ20_bitCount_1 : List UInt8 := dkwJ20_bitCount_1 ++ dktJ20_bitCount_2
def dkwJ20_bitCount_0 : List UInt8 := [30, 30, 4, 125, 20, 1, 58, 127, 101, 63, 30, 20, 1, 60, 127, 30, 5, 125, 20, 1, 60, 127, 97, 63]
abbrev dktJ20_bitCount_0 : List UInt8 := dkwJ20_bitCount_0 ++ dktJ20_bitCount_1
theorem dksJ20_bitCount_0 : cJ20_bitCount.data.toList.drop 0 = dktJ20_bitCount_0 := by decide +kernel
theorem dksJ20_bitCount_1 : cJ20_bitCount.data.toList.drop 24 = dktJ20_bitCount_1 := dk_seg dksJ20_bitCount_0 24 rfl rfl
theorem dksJ20_bitCount_2 : cJ20_bitCount.data.toList.drop 48 = dktJ20_bitCount_2 := dk_seg dksJ20_bitCount_1 24 rfl rfl
theorem dJ20_bitCount_0 : decode cJ20_bitCount 0 = .ok (.lload_n 0, 1) := dk_30 (dk_at dksJ20_bitCount_0 0 rfl rfl)
theorem dJ20_bitCount_1 : decode cJ20_bitCount 1 = .ok (.lload_n 0, 1) := dk_30 (dk_at dksJ20_bitCount_0 1 rfl rfl)
theorem dJ20_bitCount_2 : decode cJ20_bitCount 2 = .ok (.iconst 1, 1) := dk_4 (dk_at dksJ20_bitCount_0 2 rfl rfl)
theorem dJ20_bitCount_3 : decode cJ20_bitCount 3 = .ok (.lushr, 1) := dk_125 (dk_at dksJ20_bitCount_0 3 rfl rfl)
theorem dJ20_bitCount_4 : decode cJ20_bitCount 4 = .ok (.ldc2_w 314, 3) := dk_20 1 58 (dk_at dksJ20_bitCount_0 4 rfl rfl)
theorem dJ20_bitCount_7 : decode cJ20_bitCount 7 = .ok (.land, 1) := dk_127 (dk_at dksJ20_bitCount_0 7 rfl rfl)
theorem dJ20_bitCount_8 : decode cJ20_bitCount 8 = .ok (.lsub, 1) := dk_101 (dk_at dksJ20_bitCount_0 8 rfl rfl)
theorem dJ20_bitCount_9 : decode cJ20_bitCount 9 = .ok (.lstore_n 0, 1) := dk_63 (dk_at dksJ20_bitCount_0 9 rfl rfl)
theorem dJ20_bitCount_10 : decode cJ20_bitCount 10 = .ok (.lload_n 0, 1) := dk_30 (dk_at dksJ20_bitCount_0 10 rfl rfl)
theorem dJ20_bitCount_11 : decode cJ20_bitCount 11 = .ok (.ldc2_w 316, 3) := dk_20 1 60 (dk_at dksJ20_bitCount_0 11 rfl rfl)
theorem dJ20_bitCount_14 : decode cJ20_bitCount 14 = .ok (.land, 1) := dk_127 (dk_at dksJ20_bitCount_0 14 rfl rfl)
theorem dJ20_bitCount_15 : decode cJ20_bitCount 15 = .ok (.lload_n 0, 1) := dk_30 (dk_at dksJ20_bitCount_0 15 rfl rfl)
theorem dJ20_bitCount_16 : decode cJ20_bitCount 16 = .ok (.iconst 2, 1) := dk_5 (dk_at dksJ20_bitCount_0 16 rfl rfl)
theorem dJ20_bitCount_17 : decode cJ20_bitCount 17 = .ok (.lushr, 1) := dk_125 (dk_at dksJ20_bitCount_0 17 rfl rfl)
theorem dJ20_bitCount_18 : decode cJ20_bitCount 18 = .ok (.ldc2_w 316, 3) := dk_20 1 60 (dk_at dksJ20_bitCount_0 18 rfl rfl)
theorem dJ20_bitCount_21 : decode cJ20_bitCount 21 = .ok (.land, 1) := dk_127 (dk_at dksJ20_bitCount_0 21 rfl rfl)
theorem dJ20_bitCount_22 : decode cJ20_bitCount 22 = .ok (.ladd, 1) := dk_97 (dk_at dksJ20_bitCount_0 22 rfl rfl)
theorem dJ20_bitCount_23 : decode cJ20_bitCount 23 = .ok (.lstore_n 0, 1) := dk_63 (dk_at dksJ20_bitCount_0 23 rfl rfl)
theorem dJ20_bitCount_24 : decode cJ20_bitCount 24 = .ok (.lload_n 0, 1) := dk_30 (dk_at dksJ20_bitCount_1 0 rfl rfl)
theorem dJ20_bitCount_25 : decode cJ20_bitCount 25 = .ok (.lload_n 0, 1) := dk_30 (dk_at dksJ20_bitCount_1 1 rfl rfl)
theorem dJ20_bitCount_26 : decode cJ20_bitCount 26 = .ok (.iconst 4, 1) := dk_7 (dk_at dksJ20_bitCount_1 2 rfl rfl)
theorem dJ20_bitCount_27 : decode cJ20_bitCount 27 = .ok (.lushr, 1) := dk_125 (dk_at dksJ20_bitCount_1 3 rfl rfl)
theorem dJ20_bitCount_28 : decode cJ20_bitCount 28 = .ok (.ladd, 1) := dk_97 (dk_at dksJ20_bitCount_1 4 rfl rfl)
theorem dJ20_bitCount_29 : decode cJ20_bitCount 29 = .ok (.ldc2_w 318, 3) := dk_20 1 62 (dk_at dksJ20_bitCount_1 5 rfl rfl)
theorem dJ20_bitCount_32 : decode cJ20_bitCount 32 = .ok (.land, 1) := dk_127 (dk_at dksJ20_bitCount_1 8 rfl rfl)
theorem dJ20_bitCount_33 : decode cJ20_bitCount 33 = .ok (.lstore_n 0, 1) := dk_63 (dk_at dksJ20_bitCount_1 9 rfl rfl)
theorem dJ20_bitCount_34 : decode cJ20_bitCount 34 = .ok (.lload_n 0, 1) := dk_30 (dk_at dksJ20_bitCount_1 10 rfl rfl)
theorem dJ20_bitCount_35 : decode cJ20_bitCount 35 = .ok (.lload_n 0, 1) := dk_30 (dk_at dksJ20_bitCount_1 11 rfl rfl)
theorem dJ20_bitCount_36 : decode cJ20_bitCount 36 = .ok (.bipush 8, 2) := dk_16 8 (dk_at dksJ20_bitCount_1 12 rfl rfl)
theorem dJ20_bitCount_38 : decode cJ20_bitCount 38 = .ok (.lushr, 1) := dk_125 (dk_at dksJ20_bitCount_1 14 rfl rfl)
theorem dJ20_bitCount_39 : decode cJ20_bitCount 39 = .ok (.ladd, 1) := dk_97 (dk_at dksJ20_bitCount_1 15 rfl rfl)
theorem dJ20_bitCount_40 : decode cJ20_bitCount 40 = .ok (.lstore_n 0, 1) := dk_63 (dk_at dksJ20_bitCount_1 16 rfl rfl)
theorem dJ20_bitCount_41 : decode cJ20_bitCount 41 = .ok (.lload_n 0, 1) := dk_30 (dk_at dksJ20_bitCount_1 17 rfl rfl)
theorem dJ20_bitCount_42 : decode cJ20_bitCount 42 = .ok (.lload_n 0, 1) := dk_30 (dk_at dksJ20_bitCount_1 18 rfl rfl)
theorem dJ20_bitCount_43 : decode cJ20_bitCount 43 = .ok (.bipush 16, 2) := dk_16 16 (dk_at dksJ20_bitCount_1 19 rfl rfl)
theorem dJ20_bitCount_45 : decode cJ20_bitCount 45 = .ok (.lushr, 1) := dk_125 (dk_at dksJ20_bitCount_1 21 rfl rfl)
theorem dJ20_bitCount_46 : decode cJ20_bitCount 46 = .ok (.ladd, 1) := dk_97 (dk_at dksJ20_bitCount_1 22 rfl rfl)
theorem dJ20_bitCount_47 : decode cJ20_bitCount 47 = .ok (.lstore_n 0, 1) := dk_63 (dk_at dksJ20_bitCount_1 23 rfl rfl)
theorem dJ20_bitCount_48 : decode cJ20_bitCount 48 = .ok (.lload_n 0, 1) := dk_30 (dk_at dksJ20_bitCount_2 0 rfl rfl)
theorem dJ20_bitCount_49 : decode cJ20_bitCount 49 = .ok (.lload_n 0, 1) := dk_30 (dk_at dksJ20_bitCount_2 1 rfl rfl)
theorem dJ20_bitCount_50 : decode cJ20_bitCount 50 = .ok (.bipush 32, 2) := dk_16 32 (dk_at dksJ20_bitCount_2 2 rfl rfl)
theorem dJ20_bitCount_52 : decode cJ20_bitCount 52 = .ok (.lushr, 1) := dk_125 (dk_at dksJ20_bitCount_2 4 rfl rfl)
theorem dJ20_bitCount_53 : decode cJ20_bitCount 53 = .ok (.ladd, 1) := dk_97 (dk_at dksJ20_bitCount_2 5 rfl rfl)
theorem dJ20_bitCount_54 : decode cJ20_bitCount 54 = .ok (.lstore_n 0, 1) := dk_63 (dk_at dksJ20_bitCount_2 6 rfl rfl)
theorem dJ20_bitCount_55 : decode cJ20_bitCount 55 = .ok (.lload_n 0, 1) := dk_30 (dk_at dksJ20_bitCount_2 7 rfl rfl)
theorem dJ20_bitCount_56 : decode cJ20_bitCount 56 = .ok (.l2i, 1) := dk_136 (dk_at dksJ20_bitCount_2 8 rfl rfl)
theorem dJ20_bitCount_57 : decode cJ20_bitCount 57 = .ok (.bipush 127, 2) := dk_16 127 (dk_at dksJ20_bitCount_2 9 rfl rfl)
theorem dJ20_bitCount_59 : decode cJ20_bitCount 59 = .ok (.iand, 1) := dk_126 (dk_at dksJ20_bitCount_2 11 rfl rfl)
theorem dJ20_bitCount_60 : decode cJ20_bitCount 60 = .ok (.ireturn, 1) := dk_172 (dk_at dksJ20_bitCount_2 12 rfl rfl)
abbrev cJ20_numberOfTrailingZeros : ByteArray := prog_29_method_49_code
def yJ20_numberOfTrailingZeros : MethodName := ⟨RJ20, "numberOfTrailingZeros", "(J)I"⟩
def dkwJ20_numberOfTrailingZeros_1 : List UInt8 := [184, 1, 55, 172]
abbrev dktJ20_numberOfTrailingZeros_1 : List UInt8 := dkwJ20_numberOfTrailingZeros_1 ++ []
def dkwJ20_numberOfTrailingZeros_0 : List UInt8 := [30, 136, 61, 28, 154, 0, 17, 16, 32, 30, 16, 32, 125, 136, 184, 1, 55, 96, 167, 0, 7, 28]
abbrev dktJ20_numberOfTrailingZeros_0 : List UInt8 := dkwJ20_numberOfTrailingZeros_0 ++ dktJ20_numberOfTrailingZeros_1
theorem dksJ20_numberOfTrailingZeros_0 : cJ20_numberOfTrailingZeros.data.toList.drop 0 = dktJ20_numberOfTrailingZeros_0 := by decide +kernel
theorem dksJ20_numberOfTrailingZeros_1 : cJ20_numberOfTrailingZeros.data.toList.drop 22 = dktJ20_numberOfTrailingZeros_1 := dk_seg dksJ20_numberOfTrailingZeros_0 22 rfl rfl
theorem dJ20_numberOfTrailingZeros_0 : decode cJ20_numberOfTrailingZeros 0 = .ok (.lload_n 0, 1) := dk_30 (dk_at dksJ20_numberOfTrailingZeros_0 0 rfl rfl)
theorem dJ20_numberOfTrailingZeros_1 : decode cJ20_numberOfTrailingZeros 1 = .ok (.l2i, 1) := dk_136 (dk_at dksJ20_numberOfTrailingZeros_0 1 rfl rfl)
theorem dJ20_numberOfTrailingZeros_2 : decode cJ20_numberOfTrailingZeros 2 = .ok (.istore_n 2, 1) := dk_61 (dk_at dksJ20_numberOfTrailingZeros_0 2 rfl rfl)
theorem dJ20_numberOfTrailingZeros_3 : decode cJ20_numberOfTrailingZeros 3 = .ok (.iload_n 2, 1) := dk_28 (dk_at dksJ20_numberOfTrailingZeros_0 3 rfl rfl)
theorem dJ20_numberOfTrailingZeros_4 : decode cJ20_numberOfTrailingZeros 4 = .ok (.ifCond .ne 17, 3) := dk_154 0 17 (dk_at dksJ20_numberOfTrailingZeros_0 4 rfl rfl)
theorem dJ20_numberOfTrailingZeros_7 : decode cJ20_numberOfTrailingZeros 7 = .ok (.bipush 32, 2) := dk_16 32 (dk_at dksJ20_numberOfTrailingZeros_0 7 rfl rfl)
theorem dJ20_numberOfTrailingZeros_9 : decode cJ20_numberOfTrailingZeros 9 = .ok (.lload_n 0, 1) := dk_30 (dk_at dksJ20_numberOfTrailingZeros_0 9 rfl rfl)
theorem dJ20_numberOfTrailingZeros_10 : decode cJ20_numberOfTrailingZeros 10 = .ok (.bipush 32, 2) := dk_16 32 (dk_at dksJ20_numberOfTrailingZeros_0 10 rfl rfl)
theorem dJ20_numberOfTrailingZeros_12 : decode cJ20_numberOfTrailingZeros 12 = .ok (.lushr, 1) := dk_125 (dk_at dksJ20_numberOfTrailingZeros_0 12 rfl rfl)
theorem dJ20_numberOfTrailingZeros_13 : decode cJ20_numberOfTrailingZeros 13 = .ok (.l2i, 1) := dk_136 (dk_at dksJ20_numberOfTrailingZeros_0 13 rfl rfl)
theorem dJ20_numberOfTrailingZeros_14 : decode cJ20_numberOfTrailingZeros 14 = .ok (.invokestatic 311, 3) := dk_184 1 55 (dk_at dksJ20_numberOfTrailingZeros_0 14 rfl rfl)
theorem dJ20_numberOfTrailingZeros_17 : decode cJ20_numberOfTrailingZeros 17 = .ok (.iadd, 1) := dk_96 (dk_at dksJ20_numberOfTrailingZeros_0 17 rfl rfl)
theorem dJ20_numberOfTrailingZeros_18 : decode cJ20_numberOfTrailingZeros 18 = .ok (.goto 7, 3) := dk_167 0 7 (dk_at dksJ20_numberOfTrailingZeros_0 18 rfl rfl)
theorem dJ20_numberOfTrailingZeros_21 : decode cJ20_numberOfTrailingZeros 21 = .ok (.iload_n 2, 1) := dk_28 (dk_at dksJ20_numberOfTrailingZeros_0 21 rfl rfl)
theorem dJ20_numberOfTrailingZeros_22 : decode cJ20_numberOfTrailingZeros 22 = .ok (.invokestatic 311, 3) := dk_184 1 55 (dk_at dksJ20_numberOfTrailingZeros_1 0 rfl rfl)
theorem dJ20_numberOfTrailingZeros_25 : decode cJ20_numberOfTrailingZeros 25 = .ok (.ireturn, 1) := dk_172 (dk_at dksJ20_numberOfTrailingZeros_1 3 rfl rfl)
theorem q162 : (Jvm.Cond.initialized "java/lang/Long") ∈ lw_all := lw_g (lw_at lw_m1 31 rfl) rfl
theorem q939 : (Jvm.Cond.static ({ cls := "java/lang/Long", name := "bitCount", desc := "(J)I" } : Jvm.MethodName)) ∈ lw_all := lw_g (lw_at lw_m4 88 rfl) rfl
theorem q940 : (Jvm.Cond.code ({ cls := "java/lang/Long", name := "bitCount", desc := "(J)I" } : Jvm.MethodName) prog_29_method_50_code (2 : Nat) (Option.some Jvm.ClassFile.FieldType.int)) ∈ lw_all := lw_g (lw_at lw_m4 89 rfl) rfl
theorem q941 : (Jvm.Cond.constantLong "java/lang/Long" (314 : Nat) (6148914691236517205 : Int64)) ∈ lw_all := lw_g (lw_at lw_m4 90 rfl) rfl
theorem q942 : (Jvm.Cond.constantLong "java/lang/Long" (316 : Nat) (3689348814741910323 : Int64)) ∈ lw_all := lw_g (lw_at lw_m4 91 rfl) rfl
theorem q943 : (Jvm.Cond.constantLong "java/lang/Long" (318 : Nat) (1085102592571150095 : Int64)) ∈ lw_all := lw_g (lw_at lw_m4 92 rfl) rfl
theorem q952 : (Jvm.Cond.static ({ cls := "java/lang/Long", name := "numberOfTrailingZeros", desc := "(J)I" } : Jvm.MethodName)) ∈ lw_all := lw_g (lw_at lw_m4 101 rfl) rfl
theorem q953 : (Jvm.Cond.code ({ cls := "java/lang/Long", name := "numberOfTrailingZeros", desc := "(J)I" } : Jvm.MethodName) prog_29_method_49_code (3 : Nat) (Option.some Jvm.ClassFile.FieldType.int)) ∈ lw_all := lw_g (lw_at lw_m4 102 rfl) rfl
theorem q954 : (Jvm.Cond.methodLink "java/lang/Long" (311 : Nat) ({ cls := "java/lang/Integer", name := "numberOfTrailingZeros", desc := "(I)I" } : Jvm.MethodName)) ∈ lw_all := lw_g (lw_at lw_m4 103 rfl) rfl
/-! java/lang/Integer -/
set_option maxRecDepth 100000
def RJ21 : String := "java/lang/Integer"
abbrev cJ21_numberOfTrailingZeros : ByteArray := prog_27_method_48_code
def yJ21_numberOfTrailingZeros : MethodName := ⟨RJ21, "numberOfTrailingZeros", "(I)I"⟩
def dkwJ21_numberOfTrailingZeros_3 : List UInt8 := [5, 124, 59, 27, 26, 4, 124, 96, 172]
abbrev dktJ21_numberOfTrailingZeros_3 : List UInt8 := dkwJ21_numberOfTrailingZeros_3 ++ []
def dkwJ21_numberOfTrailingZeros_2 : List UInt8 := [124, 59, 26, 16, 16, 164, 0, 10, 132, 1, 4, 26, 7, 124, 59, 26, 7, 164, 0, 10, 132, 1, 2, 26]
abbrev dktJ21_numberOfTrailingZeros_2 : List UInt8 := dkwJ21_numberOfTrailingZeros_2 ++ dktJ21_numberOfTrailingZeros_3
def dkwJ21_numberOfTrailingZeros_1 : List UInt8 := [164, 0, 11, 132, 1, 16, 26, 16, 16, 124, 59, 26, 17, 1, 0, 164, 0, 11, 132, 1, 8, 26, 16, 8]
abbrev dktJ21_numberOfTrailingZeros_1 : List UInt8 := dkwJ21_numberOfTrailingZeros_1 ++ dktJ21_numberOfTrailingZeros_2
def dkwJ21_numberOfTrailingZeros_0 : List UInt8 := [26, 2, 130, 26, 4, 100, 126, 59, 26, 157, 0, 8, 26, 16, 32, 126, 172, 4, 60, 26, 19, 1, 8]
abbrev dktJ21_numberOfTrailingZeros_0 : List UInt8 := dkwJ21_numberOfTrailingZeros_0 ++ dktJ21_numberOfTrailingZeros_1
theorem dksJ21_numberOfTrailingZeros_0 : cJ21_numberOfTrailingZeros.data.toList.drop 0 = dktJ21_numberOfTrailingZeros_0 := by decide +kernel
theorem dksJ21_numberOfTrailingZeros_1 : cJ21_numberOfTrailingZeros.data.toList.drop 23 = dktJ21_numberOfTrailingZeros_1 := dk_seg dksJ21_numberOfTrailingZeros_0 23 rfl rfl
theorem dksJ21_numberOfTrailingZeros_2 : cJ21_numberOfTrailingZeros.data.toList.drop 47 = dktJ21_numberOfTrailingZeros_2 := dk_seg dksJ21_numberOfTrailingZeros_1 24 rfl rfl
theorem dksJ21_numberOfTrailingZeros_3 : cJ21_numberOfTrailingZeros.data.toList.drop 71 = dktJ21_numberOfTrailingZeros_3 := dk_seg dksJ21_numberOfTrailingZeros_2 24 rfl rfl
theorem dJ21_numberOfTrailingZeros_0 : decode cJ21_numberOfTrailingZeros 0 = .ok (.iload_n 0, 1) := dk_26 (dk_at dksJ21_numberOfTrailingZeros_0 0 rfl rfl)
theorem dJ21_numberOfTrailingZeros_1 : decode cJ21_numberOfTrailingZeros 1 = .ok (.iconst (-1), 1) := dk_2 (dk_at dksJ21_numberOfTrailingZeros_0 1 rfl rfl)
theorem dJ21_numberOfTrailingZeros_2 : decode cJ21_numberOfTrailingZeros 2 = .ok (.ixor, 1) := dk_130 (dk_at dksJ21_numberOfTrailingZeros_0 2 rfl rfl)
theorem dJ21_numberOfTrailingZeros_3 : decode cJ21_numberOfTrailingZeros 3 = .ok (.iload_n 0, 1) := dk_26 (dk_at dksJ21_numberOfTrailingZeros_0 3 rfl rfl)
theorem dJ21_numberOfTrailingZeros_4 : decode cJ21_numberOfTrailingZeros 4 = .ok (.iconst 1, 1) := dk_4 (dk_at dksJ21_numberOfTrailingZeros_0 4 rfl rfl)
theorem dJ21_numberOfTrailingZeros_5 : decode cJ21_numberOfTrailingZeros 5 = .ok (.isub, 1) := dk_100 (dk_at dksJ21_numberOfTrailingZeros_0 5 rfl rfl)
theorem dJ21_numberOfTrailingZeros_6 : decode cJ21_numberOfTrailingZeros 6 = .ok (.iand, 1) := dk_126 (dk_at dksJ21_numberOfTrailingZeros_0 6 rfl rfl)
theorem dJ21_numberOfTrailingZeros_7 : decode cJ21_numberOfTrailingZeros 7 = .ok (.istore_n 0, 1) := dk_59 (dk_at dksJ21_numberOfTrailingZeros_0 7 rfl rfl)
theorem dJ21_numberOfTrailingZeros_8 : decode cJ21_numberOfTrailingZeros 8 = .ok (.iload_n 0, 1) := dk_26 (dk_at dksJ21_numberOfTrailingZeros_0 8 rfl rfl)
theorem dJ21_numberOfTrailingZeros_9 : decode cJ21_numberOfTrailingZeros 9 = .ok (.ifCond .gt 8, 3) := dk_157 0 8 (dk_at dksJ21_numberOfTrailingZeros_0 9 rfl rfl)
theorem dJ21_numberOfTrailingZeros_12 : decode cJ21_numberOfTrailingZeros 12 = .ok (.iload_n 0, 1) := dk_26 (dk_at dksJ21_numberOfTrailingZeros_0 12 rfl rfl)
theorem dJ21_numberOfTrailingZeros_13 : decode cJ21_numberOfTrailingZeros 13 = .ok (.bipush 32, 2) := dk_16 32 (dk_at dksJ21_numberOfTrailingZeros_0 13 rfl rfl)
theorem dJ21_numberOfTrailingZeros_15 : decode cJ21_numberOfTrailingZeros 15 = .ok (.iand, 1) := dk_126 (dk_at dksJ21_numberOfTrailingZeros_0 15 rfl rfl)
theorem dJ21_numberOfTrailingZeros_16 : decode cJ21_numberOfTrailingZeros 16 = .ok (.ireturn, 1) := dk_172 (dk_at dksJ21_numberOfTrailingZeros_0 16 rfl rfl)
theorem dJ21_numberOfTrailingZeros_17 : decode cJ21_numberOfTrailingZeros 17 = .ok (.iconst 1, 1) := dk_4 (dk_at dksJ21_numberOfTrailingZeros_0 17 rfl rfl)
theorem dJ21_numberOfTrailingZeros_18 : decode cJ21_numberOfTrailingZeros 18 = .ok (.istore_n 1, 1) := dk_60 (dk_at dksJ21_numberOfTrailingZeros_0 18 rfl rfl)
theorem dJ21_numberOfTrailingZeros_19 : decode cJ21_numberOfTrailingZeros 19 = .ok (.iload_n 0, 1) := dk_26 (dk_at dksJ21_numberOfTrailingZeros_0 19 rfl rfl)
theorem dJ21_numberOfTrailingZeros_20 : decode cJ21_numberOfTrailingZeros 20 = .ok (.ldc_w 264, 3) := dk_19 1 8 (dk_at dksJ21_numberOfTrailingZeros_0 20 rfl rfl)
theorem dJ21_numberOfTrailingZeros_23 : decode cJ21_numberOfTrailingZeros 23 = .ok (.if_icmp .le 11, 3) := dk_164 0 11 (dk_at dksJ21_numberOfTrailingZeros_1 0 rfl rfl)
theorem dJ21_numberOfTrailingZeros_26 : decode cJ21_numberOfTrailingZeros 26 = .ok (.iinc 1 16, 3) := dk_132 1 16 (dk_at dksJ21_numberOfTrailingZeros_1 3 rfl rfl)
theorem dJ21_numberOfTrailingZeros_29 : decode cJ21_numberOfTrailingZeros 29 = .ok (.iload_n 0, 1) := dk_26 (dk_at dksJ21_numberOfTrailingZeros_1 6 rfl rfl)
theorem dJ21_numberOfTrailingZeros_30 : decode cJ21_numberOfTrailingZeros 30 = .ok (.bipush 16, 2) := dk_16 16 (dk_at dksJ21_numberOfTrailingZeros_1 7 rfl rfl)
theorem dJ21_numberOfTrailingZeros_32 : decode cJ21_numberOfTrailingZeros 32 = .ok (.iushr, 1) := dk_124 (dk_at dksJ21_numberOfTrailingZeros_1 9 rfl rfl)
theorem dJ21_numberOfTrailingZeros_33 : decode cJ21_numberOfTrailingZeros 33 = .ok (.istore_n 0, 1) := dk_59 (dk_at dksJ21_numberOfTrailingZeros_1 10 rfl rfl)
theorem dJ21_numberOfTrailingZeros_34 : decode cJ21_numberOfTrailingZeros 34 = .ok (.iload_n 0, 1) := dk_26 (dk_at dksJ21_numberOfTrailingZeros_1 11 rfl rfl)
theorem dJ21_numberOfTrailingZeros_35 : decode cJ21_numberOfTrailingZeros 35 = .ok (.sipush 256, 3) := dk_17 1 0 (dk_at dksJ21_numberOfTrailingZeros_1 12 rfl rfl)
theorem dJ21_numberOfTrailingZeros_38 : decode cJ21_numberOfTrailingZeros 38 = .ok (.if_icmp .le 11, 3) := dk_164 0 11 (dk_at dksJ21_numberOfTrailingZeros_1 15 rfl rfl)
theorem dJ21_numberOfTrailingZeros_41 : decode cJ21_numberOfTrailingZeros 41 = .ok (.iinc 1 8, 3) := dk_132 1 8 (dk_at dksJ21_numberOfTrailingZeros_1 18 rfl rfl)
theorem dJ21_numberOfTrailingZeros_44 : decode cJ21_numberOfTrailingZeros 44 = .ok (.iload_n 0, 1) := dk_26 (dk_at dksJ21_numberOfTrailingZeros_1 21 rfl rfl)
theorem dJ21_numberOfTrailingZeros_45 : decode cJ21_numberOfTrailingZeros 45 = .ok (.bipush 8, 2) := dk_16 8 (dk_at dksJ21_numberOfTrailingZeros_1 22 rfl rfl)
theorem dJ21_numberOfTrailingZeros_47 : decode cJ21_numberOfTrailingZeros 47 = .ok (.iushr, 1) := dk_124 (dk_at dksJ21_numberOfTrailingZeros_2 0 rfl rfl)
theorem dJ21_numberOfTrailingZeros_48 : decode cJ21_numberOfTrailingZeros 48 = .ok (.istore_n 0, 1) := dk_59 (dk_at dksJ21_numberOfTrailingZeros_2 1 rfl rfl)
theorem dJ21_numberOfTrailingZeros_49 : decode cJ21_numberOfTrailingZeros 49 = .ok (.iload_n 0, 1) := dk_26 (dk_at dksJ21_numberOfTrailingZeros_2 2 rfl rfl)
theorem dJ21_numberOfTrailingZeros_50 : decode cJ21_numberOfTrailingZeros 50 = .ok (.bipush 16, 2) := dk_16 16 (dk_at dksJ21_numberOfTrailingZeros_2 3 rfl rfl)
theorem dJ21_numberOfTrailingZeros_52 : decode cJ21_numberOfTrailingZeros 52 = .ok (.if_icmp .le 10, 3) := dk_164 0 10 (dk_at dksJ21_numberOfTrailingZeros_2 5 rfl rfl)
theorem dJ21_numberOfTrailingZeros_55 : decode cJ21_numberOfTrailingZeros 55 = .ok (.iinc 1 4, 3) := dk_132 1 4 (dk_at dksJ21_numberOfTrailingZeros_2 8 rfl rfl)
theorem dJ21_numberOfTrailingZeros_58 : decode cJ21_numberOfTrailingZeros 58 = .ok (.iload_n 0, 1) := dk_26 (dk_at dksJ21_numberOfTrailingZeros_2 11 rfl rfl)
theorem dJ21_numberOfTrailingZeros_59 : decode cJ21_numberOfTrailingZeros 59 = .ok (.iconst 4, 1) := dk_7 (dk_at dksJ21_numberOfTrailingZeros_2 12 rfl rfl)
theorem dJ21_numberOfTrailingZeros_60 : decode cJ21_numberOfTrailingZeros 60 = .ok (.iushr, 1) := dk_124 (dk_at dksJ21_numberOfTrailingZeros_2 13 rfl rfl)
theorem dJ21_numberOfTrailingZeros_61 : decode cJ21_numberOfTrailingZeros 61 = .ok (.istore_n 0, 1) := dk_59 (dk_at dksJ21_numberOfTrailingZeros_2 14 rfl rfl)
theorem dJ21_numberOfTrailingZeros_62 : decode cJ21_numberOfTrailingZeros 62 = .ok (.iload_n 0, 1) := dk_26 (dk_at dksJ21_numberOfTrailingZeros_2 15 rfl rfl)
theorem dJ21_numberOfTrailingZeros_63 : decode cJ21_numberOfTrailingZeros 63 = .ok (.iconst 4, 1) := dk_7 (dk_at dksJ21_numberOfTrailingZeros_2 16 rfl rfl)
theorem dJ21_numberOfTrailingZeros_64 : decode cJ21_numberOfTrailingZeros 64 = .ok (.if_icmp .le 10, 3) := dk_164 0 10 (dk_at dksJ21_numberOfTrailingZeros_2 17 rfl rfl)
theorem dJ21_numberOfTrailingZeros_67 : decode cJ21_numberOfTrailingZeros 67 = .ok (.iinc 1 2, 3) := dk_132 1 2 (dk_at dksJ21_numberOfTrailingZeros_2 20 rfl rfl)
theorem dJ21_numberOfTrailingZeros_70 : decode cJ21_numberOfTrailingZeros 70 = .ok (.iload_n 0, 1) := dk_26 (dk_at dksJ21_numberOfTrailingZeros_2 23 rfl rfl)
theorem dJ21_numberOfTrailingZeros_71 : decode cJ21_numberOfTrailingZeros 71 = .ok (.iconst 2, 1) := dk_5 (dk_at dksJ21_numberOfTrailingZeros_3 0 rfl rfl)
theorem dJ21_numberOfTrailingZeros_72 : decode cJ21_numberOfTrailingZeros 72 = .ok (.iushr, 1) := dk_124 (dk_at dksJ21_numberOfTrailingZeros_3 1 rfl rfl)
theorem dJ21_numberOfTrailingZeros_73 : decode cJ21_numberOfTrailingZeros 73 = .ok (.istore_n 0, 1) := dk_59 (dk_at dksJ21_numberOfTrailingZeros_3 2 rfl rfl)
theorem dJ21_numberOfTrailingZeros_74 : decode cJ21_numberOfTrailingZeros 74 = .ok (.iload_n 1, 1) := dk_27 (dk_at dksJ21_numberOfTrailingZeros_3 3 rfl rfl)
theorem dJ21_numberOfTrailingZeros_75 : decode cJ21_numberOfTrailingZeros 75 = .ok (.iload_n 0, 1) := dk_26 (dk_at dksJ21_numberOfTrailingZeros_3 4 rfl rfl)
theorem dJ21_numberOfTrailingZeros_76 : decode cJ21_numberOfTrailingZeros 76 = .ok (.iconst 1, 1) := dk_4 (dk_at dksJ21_numberOfTrailingZeros_3 5 rfl rfl)
theorem dJ21_numberOfTrailingZeros_77 : decode cJ21_numberOfTrailingZeros 77 = .ok (.iushr, 1) := dk_124 (dk_at dksJ21_numberOfTrailingZeros_3 6 rfl rfl)
theorem dJ21_numberOfTrailingZeros_78 : decode cJ21_numberOfTrailingZeros 78 = .ok (.iadd, 1) := dk_96 (dk_at dksJ21_numberOfTrailingZeros_3 7 rfl rfl)
theorem dJ21_numberOfTrailingZeros_79 : decode cJ21_numberOfTrailingZeros 79 = .ok (.ireturn, 1) := dk_172 (dk_at dksJ21_numberOfTrailingZeros_3 8 rfl rfl)
abbrev cJ21_bitCount : ByteArray := prog_27_method_49_code
def yJ21_bitCount : MethodName := ⟨RJ21, "bitCount", "(I)I"⟩
def dkwJ21_bitCount_2 : List UInt8 := [26, 16, 63, 126, 172]
abbrev dktJ21_bitCount_2 : List UInt8 := dkwJ21_bitCount_2 ++ []
def dkwJ21_bitCount_1 : List UInt8 := [26, 26, 7, 124, 96, 19, 1, 11, 126, 59, 26, 26, 16, 8, 124, 96, 59, 26, 26, 16, 16, 124, 96, 59]
abbrev dktJ21_bitCount_1 : List UInt8 := dkwJ21_bitCount_1 ++ dktJ21_bitCount_2
def dkwJ21_bitCount_0 : List UInt8 := [26, 26, 4, 124, 19, 1, 9, 126, 100, 59, 26, 19, 1, 10, 126, 26, 5, 124, 19, 1, 10, 126, 96, 59]
abbrev dktJ21_bitCount_0 : List UInt8 := dkwJ21_bitCount_0 ++ dktJ21_bitCount_1
theorem dksJ21_bitCount_0 : cJ21_bitCount.data.toList.drop 0 = dktJ21_bitCount_0 := by decide +kernel
theorem dksJ21_bitCount_1 : cJ21_bitCount.data.toList.drop 24 = dktJ21_bitCount_1 := dk_seg dksJ21_bitCount_0 24 rfl rfl
theorem dksJ21_bitCount_2 : cJ21_bitCount.data.toList.drop 48 = dktJ21_bitCount_2 := dk_seg dksJ21_bitCount_1 24 rfl rfl
theorem dJ21_bitCount_0 : decode cJ21_bitCount 0 = .ok (.iload_n 0, 1) := dk_26 (dk_at dksJ21_bitCount_0 0 rfl rfl)
theorem dJ21_bitCount_1 : decode cJ21_bitCount 1 = .ok (.iload_n 0, 1) := dk_26 (dk_at dksJ21_bitCount_0 1 rfl rfl)
theorem dJ21_bitCount_2 : decode cJ21_bitCount 2 = .ok (.iconst 1, 1) := dk_4 (dk_at dksJ21_bitCount_0 2 rfl rfl)
theorem dJ21_bitCount_3 : decode cJ21_bitCount 3 = .ok (.iushr, 1) := dk_124 (dk_at dksJ21_bitCount_0 3 rfl rfl)
theorem dJ21_bitCount_4 : decode cJ21_bitCount 4 = .ok (.ldc_w 265, 3) := dk_19 1 9 (dk_at dksJ21_bitCount_0 4 rfl rfl)
theorem dJ21_bitCount_7 : decode cJ21_bitCount 7 = .ok (.iand, 1) := dk_126 (dk_at dksJ21_bitCount_0 7 rfl rfl)
theorem dJ21_bitCount_8 : decode cJ21_bitCount 8 = .ok (.isub, 1) := dk_100 (dk_at dksJ21_bitCount_0 8 rfl rfl)
theorem dJ21_bitCount_9 : decode cJ21_bitCount 9 = .ok (.istore_n 0, 1) := dk_59 (dk_at dksJ21_bitCount_0 9 rfl rfl)
theorem dJ21_bitCount_10 : decode cJ21_bitCount 10 = .ok (.iload_n 0, 1) := dk_26 (dk_at dksJ21_bitCount_0 10 rfl rfl)
theorem dJ21_bitCount_11 : decode cJ21_bitCount 11 = .ok (.ldc_w 266, 3) := dk_19 1 10 (dk_at dksJ21_bitCount_0 11 rfl rfl)
theorem dJ21_bitCount_14 : decode cJ21_bitCount 14 = .ok (.iand, 1) := dk_126 (dk_at dksJ21_bitCount_0 14 rfl rfl)
theorem dJ21_bitCount_15 : decode cJ21_bitCount 15 = .ok (.iload_n 0, 1) := dk_26 (dk_at dksJ21_bitCount_0 15 rfl rfl)
theorem dJ21_bitCount_16 : decode cJ21_bitCount 16 = .ok (.iconst 2, 1) := dk_5 (dk_at dksJ21_bitCount_0 16 rfl rfl)
theorem dJ21_bitCount_17 : decode cJ21_bitCount 17 = .ok (.iushr, 1) := dk_124 (dk_at dksJ21_bitCount_0 17 rfl rfl)
theorem dJ21_bitCount_18 : decode cJ21_bitCount 18 = .ok (.ldc_w 266, 3) := dk_19 1 10 (dk_at dksJ21_bitCount_0 18 rfl rfl)
theorem dJ21_bitCount_21 : decode cJ21_bitCount 21 = .ok (.iand, 1) := dk_126 (dk_at dksJ21_bitCount_0 21 rfl rfl)
theorem dJ21_bitCount_22 : decode cJ21_bitCount 22 = .ok (.iadd, 1) := dk_96 (dk_at dksJ21_bitCount_0 22 rfl rfl)
theorem dJ21_bitCount_23 : decode cJ21_bitCount 23 = .ok (.istore_n 0, 1) := dk_59 (dk_at dksJ21_bitCount_0 23 rfl rfl)
theorem dJ21_bitCount_24 : decode cJ21_bitCount 24 = .ok (.iload_n 0, 1) := dk_26 (dk_at dksJ21_bitCount_1 0 rfl rfl)
theorem dJ21_bitCount_25 : decode cJ21_bitCount 25 = .ok (.iload_n 0, 1) := dk_26 (dk_at dksJ21_bitCount_1 1 rfl rfl)
theorem dJ21_bitCount_26 : decode cJ21_bitCount 26 = .ok (.iconst 4, 1) := dk_7 (dk_at dksJ21_bitCount_1 2 rfl rfl)
theorem dJ21_bitCount_27 : decode cJ21_bitCount 27 = .ok (.iushr, 1) := dk_124 (dk_at dksJ21_bitCount_1 3 rfl rfl)
theorem dJ21_bitCount_28 : decode cJ21_bitCount 28 = .ok (.iadd, 1) := dk_96 (dk_at dksJ21_bitCount_1 4 rfl rfl)
theorem dJ21_bitCount_29 : decode cJ21_bitCount 29 = .ok (.ldc_w 267, 3) := dk_19 1 11 (dk_at dksJ21_bitCount_1 5 rfl rfl)
theorem dJ21_bitCount_32 : decode cJ21_bitCount 32 = .ok (.iand, 1) := dk_126 (dk_at dksJ21_bitCount_1 8 rfl rfl)
theorem dJ21_bitCount_33 : decode cJ21_bitCount 33 = .ok (.istore_n 0, 1) := dk_59 (dk_at dksJ21_bitCount_1 9 rfl rfl)
theorem dJ21_bitCount_34 : decode cJ21_bitCount 34 = .ok (.iload_n 0, 1) := dk_26 (dk_at dksJ21_bitCount_1 10 rfl rfl)
theorem dJ21_bitCount_35 : decode cJ21_bitCount 35 = .ok (.iload_n 0, 1) := dk_26 (dk_at dksJ21_bitCount_1 11 rfl rfl)
theorem dJ21_bitCount_36 : decode cJ21_bitCount 36 = .ok (.bipush 8, 2) := dk_16 8 (dk_at dksJ21_bitCount_1 12 rfl rfl)
theorem dJ21_bitCount_38 : decode cJ21_bitCount 38 = .ok (.iushr, 1) := dk_124 (dk_at dksJ21_bitCount_1 14 rfl rfl)
theorem dJ21_bitCount_39 : decode cJ21_bitCount 39 = .ok (.iadd, 1) := dk_96 (dk_at dksJ21_bitCount_1 15 rfl rfl)
theorem dJ21_bitCount_40 : decode cJ21_bitCount 40 = .ok (.istore_n 0, 1) := dk_59 (dk_at dksJ21_bitCount_1 16 rfl rfl)
theorem dJ21_bitCount_41 : decode cJ21_bitCount 41 = .ok (.iload_n 0, 1) := dk_26 (dk_at dksJ21_bitCount_1 17 rfl rfl)
theorem dJ21_bitCount_42 : decode cJ21_bitCount 42 = .ok (.iload_n 0, 1) := dk_26 (dk_at dksJ21_bitCount_1 18 rfl rfl)
theorem dJ21_bitCount_43 : decode cJ21_bitCount 43 = .ok (.bipush 16, 2) := dk_16 16 (dk_at dksJ21_bitCount_1 19 rfl rfl)
theorem dJ21_bitCount_45 : decode cJ21_bitCount 45 = .ok (.iushr, 1) := dk_124 (dk_at dksJ21_bitCount_1 21 rfl rfl)
theorem dJ21_bitCount_46 : decode cJ21_bitCount 46 = .ok (.iadd, 1) := dk_96 (dk_at dksJ21_bitCount_1 22 rfl rfl)
theorem dJ21_bitCount_47 : decode cJ21_bitCount 47 = .ok (.istore_n 0, 1) := dk_59 (dk_at dksJ21_bitCount_1 23 rfl rfl)
theorem dJ21_bitCount_48 : decode cJ21_bitCount 48 = .ok (.iload_n 0, 1) := dk_26 (dk_at dksJ21_bitCount_2 0 rfl rfl)
theorem dJ21_bitCount_49 : decode cJ21_bitCount 49 = .ok (.bipush 63, 2) := dk_16 63 (dk_at dksJ21_bitCount_2 1 rfl rfl)
theorem dJ21_bitCount_51 : decode cJ21_bitCount 51 = .ok (.iand, 1) := dk_126 (dk_at dksJ21_bitCount_2 3 rfl rfl)
theorem dJ21_bitCount_52 : decode cJ21_bitCount 52 = .ok (.ireturn, 1) := dk_172 (dk_at dksJ21_bitCount_2 4 rfl rfl)
theorem q163 : (Jvm.Cond.initialized "java/lang/Integer") ∈ lw_all := lw_g (lw_at lw_m1 32 rfl) rfl
theorem q955 : (Jvm.Cond.static ({ cls := "java/lang/Integer", name := "numberOfTrailingZeros", desc := "(I)I" } : Jvm.MethodName)) ∈ lw_all := lw_g (lw_at lw_m4 104 rfl) rfl
theorem q956 : (Jvm.Cond.code ({ cls := "java/lang/Integer", name := "numberOfTrailingZeros", desc := "(I)I" } : Jvm.MethodName) prog_27_method_48_code (2 : Nat) (Option.some Jvm.ClassFile.FieldType.int)) ∈ lw_all := lw_g (lw_at lw_m4 105 rfl) rfl
theorem q957 : (Jvm.Cond.constant "java/lang/Integer" (264 : Nat) (65536 : Int32)) ∈ lw_all := lw_g (lw_at lw_m4 106 rfl) rfl
theorem q2013 : (Jvm.Cond.static ({ cls := "java/lang/Integer", name := "bitCount", desc := "(I)I" } : Jvm.MethodName)) ∈ lw_all := lw_g (lw_at lw_m8 202 rfl) rfl
theorem q2014 : (Jvm.Cond.code ({ cls := "java/lang/Integer", name := "bitCount", desc := "(I)I" } : Jvm.MethodName) prog_27_method_49_code (1 : Nat) (Option.some Jvm.ClassFile.FieldType.int)) ∈ lw_all := lw_g (lw_at lw_m8 203 rfl) rfl
theorem q2015 : (Jvm.Cond.constant "java/lang/Integer" (265 : Nat) (1431655765 : Int32)) ∈ lw_all := lw_g (lw_at lw_m8 204 rfl) rfl
theorem q2016 : (Jvm.Cond.constant "java/lang/Integer" (266 : Nat) (858993459 : Int32)) ∈ lw_all := lw_g (lw_at lw_m8 205 rfl) rfl
theorem q2017 : (Jvm.Cond.constant "java/lang/Integer" (267 : Nat) (252645135 : Int32)) ∈ lw_all := lw_g (lw_at lw_m8 206 rfl) rfl
/-! java/util/ArrayList$Itr -/
set_option maxRecDepth 100000
def RJ22 : String := "java/util/ArrayList$Itr"
def TJ22 : u_T := fun k => match k with
  | 0 => ("java/util/ArrayList$Itr", "cursor", "I", false)
  | 1 => ("java/util/ArrayList$Itr", "lastRet", "I", false)
  | 2 => ("java/util/ArrayList$Itr", "expectedModCount", "I", false)
  | _ => ("java/util/ArrayList$Itr", "this$0", "Ljava/util/ArrayList;", true)
def tyJ22 : Nat → FieldType := fun k => match k with
  | 0 => .int
  | 1 => .int
  | 2 => .int
  | _ => .object "java/util/ArrayList"
abbrev wsJ220 : List Cond := u_ws RJ22 TJ22 4
theorem nmJ22 : ∀ a, a < 4 → ∀ b, b < 4 → a ≠ b → (TJ22 a).2.1 ≠ (TJ22 b).2.1 := by decide +kernel
theorem tyJ22_ok : ∀ k, k < 4 → parseFieldDescriptor (TJ22 k).2.2.1 = some (tyJ22 k) := by decide +kernel
abbrev cJ22_init : ByteArray := prog_48_method_1_code
def yJ22_init : MethodName := ⟨RJ22, "<init>", "(Ljava/util/ArrayList;)V"⟩
def dkwJ22_init_1 : List UInt8 := [181, 0, 22, 177]
abbrev dktJ22_init_1 : List UInt8 := dkwJ22_init_1 ++ []
def dkwJ22_init_0 : List UInt8 := [42, 43, 181, 0, 1, 42, 183, 0, 7, 42, 2, 181, 0, 13, 42, 42, 180, 0, 1, 180, 0, 17]
abbrev dktJ22_init_0 : List UInt8 := dkwJ22_init_0 ++ dktJ22_init_1
theorem dksJ22_init_0 : cJ22_init.data.toList.drop 0 = dktJ22_init_0 := by decide +kernel
theorem dksJ22_init_1 : cJ22_init.data.toList.drop 22 = dktJ22_init_1 := dk_seg dksJ22_init_0 22 rfl rfl
theorem dJ22_init_0 : decode cJ22_init 0 = .ok (.aload_n 0, 1) := dk_42 (dk_at dksJ22_init_0 0 rfl rfl)
theorem dJ22_init_1 : decode cJ22_init 1 = .ok (.aload_n 1, 1) := dk_43 (dk_at dksJ22_init_0 1 rfl rfl)
theorem dJ22_init_2 : decode cJ22_init 2 = .ok (.putfield 1, 3) := dk_181 0 1 (dk_at dksJ22_init_0 2 rfl rfl)
theorem dJ22_init_5 : decode cJ22_init 5 = .ok (.aload_n 0, 1) := dk_42 (dk_at dksJ22_init_0 5 rfl rfl)
theorem dJ22_init_6 : decode cJ22_init 6 = .ok (.invokespecial 7, 3) := dk_183 0 7 (dk_at dksJ22_init_0 6 rfl rfl)
theorem dJ22_init_9 : decode cJ22_init 9 = .ok (.aload_n 0, 1) := dk_42 (dk_at dksJ22_init_0 9 rfl rfl)
theorem dJ22_init_10 : decode cJ22_init 10 = .ok (.iconst (-1), 1) := dk_2 (dk_at dksJ22_init_0 10 rfl rfl)
theorem dJ22_init_11 : decode cJ22_init 11 = .ok (.putfield 13, 3) := dk_181 0 13 (dk_at dksJ22_init_0 11 rfl rfl)
theorem dJ22_init_14 : decode cJ22_init 14 = .ok (.aload_n 0, 1) := dk_42 (dk_at dksJ22_init_0 14 rfl rfl)
theorem dJ22_init_15 : decode cJ22_init 15 = .ok (.aload_n 0, 1) := dk_42 (dk_at dksJ22_init_0 15 rfl rfl)
theorem dJ22_init_16 : decode cJ22_init 16 = .ok (.getfield 1, 3) := dk_180 0 1 (dk_at dksJ22_init_0 16 rfl rfl)
theorem dJ22_init_19 : decode cJ22_init 19 = .ok (.getfield 17, 3) := dk_180 0 17 (dk_at dksJ22_init_0 19 rfl rfl)
theorem dJ22_init_22 : decode cJ22_init 22 = .ok (.putfield 22, 3) := dk_181 0 22 (dk_at dksJ22_init_1 0 rfl rfl)
theorem dJ22_init_25 : decode cJ22_init 25 = .ok (.return_, 1) := dk_177 (dk_at dksJ22_init_1 3 rfl rfl)
abbrev cJ22_hasNext : ByteArray := prog_48_method_2_code
def yJ22_hasNext : MethodName := ⟨RJ22, "hasNext", "()Z"⟩
def dkwJ22_hasNext_0 : List UInt8 := [42, 180, 0, 25, 42, 180, 0, 1, 180, 0, 28, 159, 0, 7, 4, 167, 0, 4, 3, 172]
abbrev dktJ22_hasNext_0 : List UInt8 := dkwJ22_hasNext_0 ++ []
theorem dksJ22_hasNext_0 : cJ22_hasNext.data.toList.drop 0 = dktJ22_hasNext_0 := by decide +kernel
theorem dJ22_hasNext_0 : decode cJ22_hasNext 0 = .ok (.aload_n 0, 1) := dk_42 (dk_at dksJ22_hasNext_0 0 rfl rfl)
theorem dJ22_hasNext_1 : decode cJ22_hasNext 1 = .ok (.getfield 25, 3) := dk_180 0 25 (dk_at dksJ22_hasNext_0 1 rfl rfl)
theorem dJ22_hasNext_4 : decode cJ22_hasNext 4 = .ok (.aload_n 0, 1) := dk_42 (dk_at dksJ22_hasNext_0 4 rfl rfl)
theorem dJ22_hasNext_5 : decode cJ22_hasNext 5 = .ok (.getfield 1, 3) := dk_180 0 1 (dk_at dksJ22_hasNext_0 5 rfl rfl)
theorem dJ22_hasNext_8 : decode cJ22_hasNext 8 = .ok (.getfield 28, 3) := dk_180 0 28 (dk_at dksJ22_hasNext_0 8 rfl rfl)
theorem dJ22_hasNext_11 : decode cJ22_hasNext 11 = .ok (.if_icmp .eq 7, 3) := dk_159 0 7 (dk_at dksJ22_hasNext_0 11 rfl rfl)
theorem dJ22_hasNext_14 : decode cJ22_hasNext 14 = .ok (.iconst 1, 1) := dk_4 (dk_at dksJ22_hasNext_0 14 rfl rfl)
theorem dJ22_hasNext_15 : decode cJ22_hasNext 15 = .ok (.goto 4, 3) := dk_167 0 4 (dk_at dksJ22_hasNext_0 15 rfl rfl)
theorem dJ22_hasNext_18 : decode cJ22_hasNext 18 = .ok (.iconst 0, 1) := dk_3 (dk_at dksJ22_hasNext_0 18 rfl rfl)
theorem dJ22_hasNext_19 : decode cJ22_hasNext 19 = .ok (.ireturn, 1) := dk_172 (dk_at dksJ22_hasNext_0 19 rfl rfl)
abbrev cJ22_next : ByteArray := prog_48_method_3_code
def yJ22_next : MethodName := ⟨RJ22, "next", "()Ljava/lang/Object;"⟩
def dkwJ22_next_2 : List UInt8 := [183, 0, 43, 191, 42, 27, 4, 96, 181, 0, 25, 44, 42, 27, 90, 181, 0, 13, 50, 176]
abbrev dktJ22_next_2 : List UInt8 := dkwJ22_next_2 ++ []
def dkwJ22_next_1 : List UInt8 := [183, 0, 36, 191, 42, 180, 0, 1, 180, 0, 37, 77, 27, 44, 190, 161, 0, 11, 187, 0, 41, 89]
abbrev dktJ22_next_1 : List UInt8 := dkwJ22_next_1 ++ dktJ22_next_2
def dkwJ22_next_0 : List UInt8 := [42, 182, 0, 31, 42, 180, 0, 25, 60, 27, 42, 180, 0, 1, 180, 0, 28, 161, 0, 11, 187, 0, 34, 89]
abbrev dktJ22_next_0 : List UInt8 := dkwJ22_next_0 ++ dktJ22_next_1
theorem dksJ22_next_0 : cJ22_next.data.toList.drop 0 = dktJ22_next_0 := by decide +kernel
theorem dksJ22_next_1 : cJ22_next.data.toList.drop 24 = dktJ22_next_1 := dk_seg dksJ22_next_0 24 rfl rfl
theorem dksJ22_next_2 : cJ22_next.data.toList.drop 46 = dktJ22_next_2 := dk_seg dksJ22_next_1 22 rfl rfl
theorem dJ22_next_0 : decode cJ22_next 0 = .ok (.aload_n 0, 1) := dk_42 (dk_at dksJ22_next_0 0 rfl rfl)
theorem dJ22_next_1 : decode cJ22_next 1 = .ok (.invokevirtual 31, 3) := dk_182 0 31 (dk_at dksJ22_next_0 1 rfl rfl)
theorem dJ22_next_4 : decode cJ22_next 4 = .ok (.aload_n 0, 1) := dk_42 (dk_at dksJ22_next_0 4 rfl rfl)
theorem dJ22_next_5 : decode cJ22_next 5 = .ok (.getfield 25, 3) := dk_180 0 25 (dk_at dksJ22_next_0 5 rfl rfl)
theorem dJ22_next_8 : decode cJ22_next 8 = .ok (.istore_n 1, 1) := dk_60 (dk_at dksJ22_next_0 8 rfl rfl)
theorem dJ22_next_9 : decode cJ22_next 9 = .ok (.iload_n 1, 1) := dk_27 (dk_at dksJ22_next_0 9 rfl rfl)
theorem dJ22_next_10 : decode cJ22_next 10 = .ok (.aload_n 0, 1) := dk_42 (dk_at dksJ22_next_0 10 rfl rfl)
theorem dJ22_next_11 : decode cJ22_next 11 = .ok (.getfield 1, 3) := dk_180 0 1 (dk_at dksJ22_next_0 11 rfl rfl)
theorem dJ22_next_14 : decode cJ22_next 14 = .ok (.getfield 28, 3) := dk_180 0 28 (dk_at dksJ22_next_0 14 rfl rfl)
theorem dJ22_next_17 : decode cJ22_next 17 = .ok (.if_icmp .lt 11, 3) := dk_161 0 11 (dk_at dksJ22_next_0 17 rfl rfl)
theorem dJ22_next_20 : decode cJ22_next 20 = .ok (.new 34, 3) := dk_187 0 34 (dk_at dksJ22_next_0 20 rfl rfl)
theorem dJ22_next_23 : decode cJ22_next 23 = .ok (.dup, 1) := dk_89 (dk_at dksJ22_next_0 23 rfl rfl)
theorem dJ22_next_24 : decode cJ22_next 24 = .ok (.invokespecial 36, 3) := dk_183 0 36 (dk_at dksJ22_next_1 0 rfl rfl)
theorem dJ22_next_27 : decode cJ22_next 27 = .ok (.athrow, 1) := dk_191 (dk_at dksJ22_next_1 3 rfl rfl)
theorem dJ22_next_28 : decode cJ22_next 28 = .ok (.aload_n 0, 1) := dk_42 (dk_at dksJ22_next_1 4 rfl rfl)
theorem dJ22_next_29 : decode cJ22_next 29 = .ok (.getfield 1, 3) := dk_180 0 1 (dk_at dksJ22_next_1 5 rfl rfl)
theorem dJ22_next_32 : decode cJ22_next 32 = .ok (.getfield 37, 3) := dk_180 0 37 (dk_at dksJ22_next_1 8 rfl rfl)
theorem dJ22_next_35 : decode cJ22_next 35 = .ok (.astore_n 2, 1) := dk_77 (dk_at dksJ22_next_1 11 rfl rfl)
theorem dJ22_next_36 : decode cJ22_next 36 = .ok (.iload_n 1, 1) := dk_27 (dk_at dksJ22_next_1 12 rfl rfl)
theorem dJ22_next_37 : decode cJ22_next 37 = .ok (.aload_n 2, 1) := dk_44 (dk_at dksJ22_next_1 13 rfl rfl)
theorem dJ22_next_38 : decode cJ22_next 38 = .ok (.arraylength, 1) := dk_190 (dk_at dksJ22_next_1 14 rfl rfl)
theorem dJ22_next_39 : decode cJ22_next 39 = .ok (.if_icmp .lt 11, 3) := dk_161 0 11 (dk_at dksJ22_next_1 15 rfl rfl)
theorem dJ22_next_42 : decode cJ22_next 42 = .ok (.new 41, 3) := dk_187 0 41 (dk_at dksJ22_next_1 18 rfl rfl)
theorem dJ22_next_45 : decode cJ22_next 45 = .ok (.dup, 1) := dk_89 (dk_at dksJ22_next_1 21 rfl rfl)
theorem dJ22_next_46 : decode cJ22_next 46 = .ok (.invokespecial 43, 3) := dk_183 0 43 (dk_at dksJ22_next_2 0 rfl rfl)
theorem dJ22_next_49 : decode cJ22_next 49 = .ok (.athrow, 1) := dk_191 (dk_at dksJ22_next_2 3 rfl rfl)
theorem dJ22_next_50 : decode cJ22_next 50 = .ok (.aload_n 0, 1) := dk_42 (dk_at dksJ22_next_2 4 rfl rfl)
theorem dJ22_next_51 : decode cJ22_next 51 = .ok (.iload_n 1, 1) := dk_27 (dk_at dksJ22_next_2 5 rfl rfl)
theorem dJ22_next_52 : decode cJ22_next 52 = .ok (.iconst 1, 1) := dk_4 (dk_at dksJ22_next_2 6 rfl rfl)
theorem dJ22_next_53 : decode cJ22_next 53 = .ok (.iadd, 1) := dk_96 (dk_at dksJ22_next_2 7 rfl rfl)
theorem dJ22_next_54 : decode cJ22_next 54 = .ok (.putfield 25, 3) := dk_181 0 25 (dk_at dksJ22_next_2 8 rfl rfl)
theorem dJ22_next_57 : decode cJ22_next 57 = .ok (.aload_n 2, 1) := dk_44 (dk_at dksJ22_next_2 11 rfl rfl)
theorem dJ22_next_58 : decode cJ22_next 58 = .ok (.aload_n 0, 1) := dk_42 (dk_at dksJ22_next_2 12 rfl rfl)
theorem dJ22_next_59 : decode cJ22_next 59 = .ok (.iload_n 1, 1) := dk_27 (dk_at dksJ22_next_2 13 rfl rfl)
theorem dJ22_next_60 : decode cJ22_next 60 = .ok (.dup_x1, 1) := dk_90 (dk_at dksJ22_next_2 14 rfl rfl)
theorem dJ22_next_61 : decode cJ22_next 61 = .ok (.putfield 13, 3) := dk_181 0 13 (dk_at dksJ22_next_2 15 rfl rfl)
theorem dJ22_next_64 : decode cJ22_next 64 = .ok (.aaload, 1) := dk_50 (dk_at dksJ22_next_2 18 rfl rfl)
theorem dJ22_next_65 : decode cJ22_next 65 = .ok (.areturn, 1) := dk_176 (dk_at dksJ22_next_2 19 rfl rfl)
abbrev cJ22_checkForComodification : ByteArray := prog_48_method_6_code
def yJ22_checkForComodification : MethodName := ⟨RJ22, "checkForComodification", "()V"⟩
def dkwJ22_checkForComodification_0 : List UInt8 := [42, 180, 0, 1, 180, 0, 17, 42, 180, 0, 22, 159, 0, 11, 187, 0, 41, 89, 183, 0, 43, 191, 177]
abbrev dktJ22_checkForComodification_0 : List UInt8 := dkwJ22_checkForComodification_0 ++ []
theorem dksJ22_checkForComodification_0 : cJ22_checkForComodification.data.toList.drop 0 = dktJ22_checkForComodification_0 := by decide +kernel
theorem dJ22_checkForComodification_0 : decode cJ22_checkForComodification 0 = .ok (.aload_n 0, 1) := dk_42 (dk_at dksJ22_checkForComodification_0 0 rfl rfl)
theorem dJ22_checkForComodification_1 : decode cJ22_checkForComodification 1 = .ok (.getfield 1, 3) := dk_180 0 1 (dk_at dksJ22_checkForComodification_0 1 rfl rfl)
theorem dJ22_checkForComodification_4 : decode cJ22_checkForComodification 4 = .ok (.getfield 17, 3) := dk_180 0 17 (dk_at dksJ22_checkForComodification_0 4 rfl rfl)
theorem dJ22_checkForComodification_7 : decode cJ22_checkForComodification 7 = .ok (.aload_n 0, 1) := dk_42 (dk_at dksJ22_checkForComodification_0 7 rfl rfl)
theorem dJ22_checkForComodification_8 : decode cJ22_checkForComodification 8 = .ok (.getfield 22, 3) := dk_180 0 22 (dk_at dksJ22_checkForComodification_0 8 rfl rfl)
theorem dJ22_checkForComodification_11 : decode cJ22_checkForComodification 11 = .ok (.if_icmp .eq 11, 3) := dk_159 0 11 (dk_at dksJ22_checkForComodification_0 11 rfl rfl)
theorem dJ22_checkForComodification_14 : decode cJ22_checkForComodification 14 = .ok (.new 41, 3) := dk_187 0 41 (dk_at dksJ22_checkForComodification_0 14 rfl rfl)
theorem dJ22_checkForComodification_17 : decode cJ22_checkForComodification 17 = .ok (.dup, 1) := dk_89 (dk_at dksJ22_checkForComodification_0 17 rfl rfl)
theorem dJ22_checkForComodification_18 : decode cJ22_checkForComodification 18 = .ok (.invokespecial 43, 3) := dk_183 0 43 (dk_at dksJ22_checkForComodification_0 18 rfl rfl)
theorem dJ22_checkForComodification_21 : decode cJ22_checkForComodification 21 = .ok (.athrow, 1) := dk_191 (dk_at dksJ22_checkForComodification_0 21 rfl rfl)
theorem dJ22_checkForComodification_22 : decode cJ22_checkForComodification 22 = .ok (.return_, 1) := dk_177 (dk_at dksJ22_checkForComodification_0 22 rfl rfl)
abbrev cJ22_remove : ByteArray := prog_48_method_4_code
def yJ22_remove : MethodName := ⟨RJ22, "remove", "()V"⟩
def dkwJ22_remove_2 : List UInt8 := [180, 0, 1, 180, 0, 17, 181, 0, 22, 167, 0, 12, 76, 187, 0, 41, 89, 183, 0, 43, 191, 177]
abbrev dktJ22_remove_2 : List UInt8 := dkwJ22_remove_2 ++ []
def dkwJ22_remove_1 : List UInt8 := [180, 0, 13, 182, 0, 47, 87, 42, 42, 180, 0, 13, 181, 0, 25, 42, 2, 181, 0, 13, 42, 42]
abbrev dktJ22_remove_1 : List UInt8 := dkwJ22_remove_1 ++ dktJ22_remove_2
def dkwJ22_remove_0 : List UInt8 := [42, 180, 0, 13, 156, 0, 11, 187, 0, 44, 89, 183, 0, 46, 191, 42, 182, 0, 31, 42, 180, 0, 1, 42]
abbrev dktJ22_remove_0 : List UInt8 := dkwJ22_remove_0 ++ dktJ22_remove_1
theorem dksJ22_remove_0 : cJ22_remove.data.toList.drop 0 = dktJ22_remove_0 := by decide +kernel
theorem dksJ22_remove_1 : cJ22_remove.data.toList.drop 24 = dktJ22_remove_1 := dk_seg dksJ22_remove_0 24 rfl rfl
theorem dksJ22_remove_2 : cJ22_remove.data.toList.drop 46 = dktJ22_remove_2 := dk_seg dksJ22_remove_1 22 rfl rfl
theorem dJ22_remove_0 : decode cJ22_remove 0 = .ok (.aload_n 0, 1) := dk_42 (dk_at dksJ22_remove_0 0 rfl rfl)
theorem dJ22_remove_1 : decode cJ22_remove 1 = .ok (.getfield 13, 3) := dk_180 0 13 (dk_at dksJ22_remove_0 1 rfl rfl)
theorem dJ22_remove_4 : decode cJ22_remove 4 = .ok (.ifCond .ge 11, 3) := dk_156 0 11 (dk_at dksJ22_remove_0 4 rfl rfl)
theorem dJ22_remove_7 : decode cJ22_remove 7 = .ok (.new 44, 3) := dk_187 0 44 (dk_at dksJ22_remove_0 7 rfl rfl)
theorem dJ22_remove_10 : decode cJ22_remove 10 = .ok (.dup, 1) := dk_89 (dk_at dksJ22_remove_0 10 rfl rfl)
theorem dJ22_remove_11 : decode cJ22_remove 11 = .ok (.invokespecial 46, 3) := dk_183 0 46 (dk_at dksJ22_remove_0 11 rfl rfl)
theorem dJ22_remove_14 : decode cJ22_remove 14 = .ok (.athrow, 1) := dk_191 (dk_at dksJ22_remove_0 14 rfl rfl)
theorem dJ22_remove_15 : decode cJ22_remove 15 = .ok (.aload_n 0, 1) := dk_42 (dk_at dksJ22_remove_0 15 rfl rfl)
theorem dJ22_remove_16 : decode cJ22_remove 16 = .ok (.invokevirtual 31, 3) := dk_182 0 31 (dk_at dksJ22_remove_0 16 rfl rfl)
theorem dJ22_remove_19 : decode cJ22_remove 19 = .ok (.aload_n 0, 1) := dk_42 (dk_at dksJ22_remove_0 19 rfl rfl)
theorem dJ22_remove_20 : decode cJ22_remove 20 = .ok (.getfield 1, 3) := dk_180 0 1 (dk_at dksJ22_remove_0 20 rfl rfl)
theorem dJ22_remove_23 : decode cJ22_remove 23 = .ok (.aload_n 0, 1) := dk_42 (dk_at dksJ22_remove_0 23 rfl rfl)
theorem dJ22_remove_24 : decode cJ22_remove 24 = .ok (.getfield 13, 3) := dk_180 0 13 (dk_at dksJ22_remove_1 0 rfl rfl)
theorem dJ22_remove_27 : decode cJ22_remove 27 = .ok (.invokevirtual 47, 3) := dk_182 0 47 (dk_at dksJ22_remove_1 3 rfl rfl)
theorem dJ22_remove_30 : decode cJ22_remove 30 = .ok (.pop, 1) := dk_87 (dk_at dksJ22_remove_1 6 rfl rfl)
theorem dJ22_remove_31 : decode cJ22_remove 31 = .ok (.aload_n 0, 1) := dk_42 (dk_at dksJ22_remove_1 7 rfl rfl)
theorem dJ22_remove_32 : decode cJ22_remove 32 = .ok (.aload_n 0, 1) := dk_42 (dk_at dksJ22_remove_1 8 rfl rfl)
theorem dJ22_remove_33 : decode cJ22_remove 33 = .ok (.getfield 13, 3) := dk_180 0 13 (dk_at dksJ22_remove_1 9 rfl rfl)
theorem dJ22_remove_36 : decode cJ22_remove 36 = .ok (.putfield 25, 3) := dk_181 0 25 (dk_at dksJ22_remove_1 12 rfl rfl)
theorem dJ22_remove_39 : decode cJ22_remove 39 = .ok (.aload_n 0, 1) := dk_42 (dk_at dksJ22_remove_1 15 rfl rfl)
theorem dJ22_remove_40 : decode cJ22_remove 40 = .ok (.iconst (-1), 1) := dk_2 (dk_at dksJ22_remove_1 16 rfl rfl)
theorem dJ22_remove_41 : decode cJ22_remove 41 = .ok (.putfield 13, 3) := dk_181 0 13 (dk_at dksJ22_remove_1 17 rfl rfl)
theorem dJ22_remove_44 : decode cJ22_remove 44 = .ok (.aload_n 0, 1) := dk_42 (dk_at dksJ22_remove_1 20 rfl rfl)
theorem dJ22_remove_45 : decode cJ22_remove 45 = .ok (.aload_n 0, 1) := dk_42 (dk_at dksJ22_remove_1 21 rfl rfl)
theorem dJ22_remove_46 : decode cJ22_remove 46 = .ok (.getfield 1, 3) := dk_180 0 1 (dk_at dksJ22_remove_2 0 rfl rfl)
theorem dJ22_remove_49 : decode cJ22_remove 49 = .ok (.getfield 17, 3) := dk_180 0 17 (dk_at dksJ22_remove_2 3 rfl rfl)
theorem dJ22_remove_52 : decode cJ22_remove 52 = .ok (.putfield 22, 3) := dk_181 0 22 (dk_at dksJ22_remove_2 6 rfl rfl)
theorem dJ22_remove_55 : decode cJ22_remove 55 = .ok (.goto 12, 3) := dk_167 0 12 (dk_at dksJ22_remove_2 9 rfl rfl)
theorem dJ22_remove_58 : decode cJ22_remove 58 = .ok (.astore_n 1, 1) := dk_76 (dk_at dksJ22_remove_2 12 rfl rfl)
theorem dJ22_remove_59 : decode cJ22_remove 59 = .ok (.new 41, 3) := dk_187 0 41 (dk_at dksJ22_remove_2 13 rfl rfl)
theorem dJ22_remove_62 : decode cJ22_remove 62 = .ok (.dup, 1) := dk_89 (dk_at dksJ22_remove_2 16 rfl rfl)
theorem dJ22_remove_63 : decode cJ22_remove 63 = .ok (.invokespecial 43, 3) := dk_183 0 43 (dk_at dksJ22_remove_2 17 rfl rfl)
theorem dJ22_remove_66 : decode cJ22_remove 66 = .ok (.athrow, 1) := dk_191 (dk_at dksJ22_remove_2 20 rfl rfl)
theorem dJ22_remove_67 : decode cJ22_remove 67 = .ok (.return_, 1) := dk_177 (dk_at dksJ22_remove_2 21 rfl rfl)
theorem q164 : (Jvm.Cond.initialized "java/util/ArrayList$Itr") ∈ lw_all := lw_g (lw_at lw_m1 33 rfl) rfl
theorem q213 : (Jvm.Cond.fieldLink "java/util/ArrayList$Itr" (37 : Nat) "java/util/ArrayList" "elementData" "[Ljava/lang/Object;") ∈ lw_all := lw_g (lw_at lw_m1 82 rfl) rfl
theorem q214 : (Jvm.Cond.fieldLinkNest "java/util/ArrayList$Itr" (28 : Nat) "java/util/ArrayList" "size" "I" "java/util/ArrayList") ∈ lw_tbl := lw_at lw_m1 83 rfl
theorem q219 : (Jvm.Cond.fieldLink "java/util/ArrayList$Itr" (17 : Nat) "java/util/ArrayList" "modCount" "I") ∈ lw_all := lw_g (lw_at lw_m1 88 rfl) rfl
theorem q837 : (Jvm.Cond.selects "java/util/ArrayList$Itr" ({ cls := "java/lang/Object", name := "getClass", desc := "()Ljava/lang/Class;" } : Jvm.MethodName) ({ cls := "java/lang/Object", name := "getClass", desc := "()Ljava/lang/Class;" } : Jvm.MethodName)) ∈ lw_all := lw_g (lw_at lw_m3 226 rfl) rfl
theorem q1211 : (Jvm.Cond.instantiable "java/util/ArrayList$Itr" (4 : Nat)) ∈ lw_all := lw_g (lw_at lw_m5 120 rfl) rfl
theorem q1213 : (Jvm.Cond.instanceMethod ({ cls := "java/util/ArrayList$Itr", name := "<init>", desc := "(Ljava/util/ArrayList;)V" } : Jvm.MethodName)) ∈ lw_all := lw_g (lw_at lw_m5 122 rfl) rfl
theorem q1214 : (Jvm.Cond.code ({ cls := "java/util/ArrayList$Itr", name := "<init>", desc := "(Ljava/util/ArrayList;)V" } : Jvm.MethodName) prog_48_method_1_code (2 : Nat) (Option.none : Option Jvm.ClassFile.FieldType)) ∈ lw_all := lw_g (lw_at lw_m5 123 rfl) rfl
theorem q1215 : (Jvm.Cond.methodLink "java/util/ArrayList$Itr" (7 : Nat) ({ cls := "java/lang/Object", name := "<init>", desc := "()V" } : Jvm.MethodName)) ∈ lw_all := lw_g (lw_at lw_m5 124 rfl) rfl
theorem q1218 : (Jvm.Cond.fieldLink "java/util/ArrayList$Itr" (25 : Nat) "java/util/ArrayList$Itr" "cursor" "I") ∈ lw_all := lw_g (lw_at lw_m5 127 rfl) rfl
theorem q1219 : (Jvm.Cond.fieldLink "java/util/ArrayList$Itr" (13 : Nat) "java/util/ArrayList$Itr" "lastRet" "I") ∈ lw_all := lw_g (lw_at lw_m5 128 rfl) rfl
theorem q1220 : (Jvm.Cond.fieldLink "java/util/ArrayList$Itr" (22 : Nat) "java/util/ArrayList$Itr" "expectedModCount" "I") ∈ lw_all := lw_g (lw_at lw_m5 129 rfl) rfl
theorem q1221 : (Jvm.Cond.fieldLink "java/util/ArrayList$Itr" (1 : Nat) "java/util/ArrayList$Itr" "this$0" "Ljava/util/ArrayList;") ∈ lw_all := lw_g (lw_at lw_m5 130 rfl) rfl
theorem q1222 : (Jvm.Cond.lays "java/util/ArrayList$Itr" "java/util/ArrayList$Itr" "cursor" "I") ∈ lw_all := lw_g (lw_at lw_m5 131 rfl) rfl
theorem q1223 : (Jvm.Cond.soleField "java/util/ArrayList$Itr" "cursor") ∈ lw_all := lw_g (lw_at lw_m5 132 rfl) rfl
theorem q1224 : (Jvm.Cond.lays "java/util/ArrayList$Itr" "java/util/ArrayList$Itr" "lastRet" "I") ∈ lw_all := lw_g (lw_at lw_m5 133 rfl) rfl
theorem q1225 : (Jvm.Cond.soleField "java/util/ArrayList$Itr" "lastRet") ∈ lw_all := lw_g (lw_at lw_m5 134 rfl) rfl
theorem q1226 : (Jvm.Cond.lays "java/util/ArrayList$Itr" "java/util/ArrayList$Itr" "expectedModCount" "I") ∈ lw_all := lw_g (lw_at lw_m5 135 rfl) rfl
theorem q1227 : (Jvm.Cond.soleField "java/util/ArrayList$Itr" "expectedModCount") ∈ lw_all := lw_g (lw_at lw_m5 136 rfl) rfl
theorem q1228 : (Jvm.Cond.laysFinal "java/util/ArrayList$Itr" "java/util/ArrayList$Itr" "this$0" "Ljava/util/ArrayList;") ∈ lw_all := lw_g (lw_at lw_m5 137 rfl) rfl
theorem q1229 : (Jvm.Cond.soleField "java/util/ArrayList$Itr" "this$0") ∈ lw_all := lw_g (lw_at lw_m5 138 rfl) rfl
theorem q1230 : (Jvm.Cond.superclass "java/util/ArrayList$Itr" "java/lang/Object") ∈ lw_all := lw_g (lw_at lw_m5 139 rfl) rfl
theorem q1330 : (Jvm.Cond.castable "java/util/ArrayList$Itr" "java/util/Iterator") ∈ lw_tbl := lw_at lw_m5 239 rfl
theorem q1331 : (Jvm.Cond.selects "java/util/ArrayList$Itr" ({ cls := "java/util/Iterator", name := "hasNext", desc := "()Z" } : Jvm.MethodName) ({ cls := "java/util/ArrayList$Itr", name := "hasNext", desc := "()Z" } : Jvm.MethodName)) ∈ lw_all := lw_g (lw_at lw_m6 0 rfl) rfl
theorem q1332 : (Jvm.Cond.unhidden "java/util/ArrayList$Itr" "hasNext" "()Z") ∈ lw_tbl := lw_at lw_m6 1 rfl
theorem q1333 : (Jvm.Cond.instanceMethod ({ cls := "java/util/ArrayList$Itr", name := "hasNext", desc := "()Z" } : Jvm.MethodName)) ∈ lw_all := lw_g (lw_at lw_m6 2 rfl) rfl
theorem q1334 : (Jvm.Cond.publicMethod ({ cls := "java/util/ArrayList$Itr", name := "hasNext", desc := "()Z" } : Jvm.MethodName)) ∈ lw_tbl := lw_at lw_m6 3 rfl
theorem q1335 : (Jvm.Cond.code ({ cls := "java/util/ArrayList$Itr", name := "hasNext", desc := "()Z" } : Jvm.MethodName) prog_48_method_2_code (1 : Nat) (Option.some Jvm.ClassFile.FieldType.boolean)) ∈ lw_all := lw_g (lw_at lw_m6 4 rfl) rfl
theorem q1589 : (Jvm.Cond.selects "java/util/ArrayList$Itr" ({ cls := "java/util/Iterator", name := "next", desc := "()Ljava/lang/Object;" } : Jvm.MethodName) ({ cls := "java/util/ArrayList$Itr", name := "next", desc := "()Ljava/lang/Object;" } : Jvm.MethodName)) ∈ lw_all := lw_g (lw_at lw_m7 18 rfl) rfl
theorem q1590 : (Jvm.Cond.unhidden "java/util/ArrayList$Itr" "next" "()Ljava/lang/Object;") ∈ lw_tbl := lw_at lw_m7 19 rfl
theorem q1591 : (Jvm.Cond.instanceMethod ({ cls := "java/util/ArrayList$Itr", name := "next", desc := "()Ljava/lang/Object;" } : Jvm.MethodName)) ∈ lw_all := lw_g (lw_at lw_m7 20 rfl) rfl
theorem q1592 : (Jvm.Cond.publicMethod ({ cls := "java/util/ArrayList$Itr", name := "next", desc := "()Ljava/lang/Object;" } : Jvm.MethodName)) ∈ lw_tbl := lw_at lw_m7 21 rfl
theorem q1593 : (Jvm.Cond.code ({ cls := "java/util/ArrayList$Itr", name := "next", desc := "()Ljava/lang/Object;" } : Jvm.MethodName) prog_48_method_3_code (3 : Nat) (Option.some (Jvm.ClassFile.FieldType.object "java/lang/Object"))) ∈ lw_all := lw_g (lw_at lw_m7 22 rfl) rfl
theorem q1594 : (Jvm.Cond.methodLink "java/util/ArrayList$Itr" (31 : Nat) ({ cls := "java/util/ArrayList$Itr", name := "checkForComodification", desc := "()V" } : Jvm.MethodName)) ∈ lw_all := lw_g (lw_at lw_m7 23 rfl) rfl
theorem q1595 : (Jvm.Cond.instanceMethod ({ cls := "java/util/ArrayList$Itr", name := "checkForComodification", desc := "()V" } : Jvm.MethodName)) ∈ lw_all := lw_g (lw_at lw_m7 24 rfl) rfl
theorem q1596 : (Jvm.Cond.selects "java/util/ArrayList$Itr" ({ cls := "java/util/ArrayList$Itr", name := "checkForComodification", desc := "()V" } : Jvm.MethodName) ({ cls := "java/util/ArrayList$Itr", name := "checkForComodification", desc := "()V" } : Jvm.MethodName)) ∈ lw_all := lw_g (lw_at lw_m7 25 rfl) rfl
theorem q1597 : (Jvm.Cond.sameMethod "java/util/ArrayList$Itr" "java/util/ArrayList$Itr" "checkForComodification" "()V") ∈ lw_all := lw_g (lw_at lw_m7 26 rfl) rfl
theorem q1599 : (Jvm.Cond.code ({ cls := "java/util/ArrayList$Itr", name := "checkForComodification", desc := "()V" } : Jvm.MethodName) prog_48_method_6_code (1 : Nat) (Option.none : Option Jvm.ClassFile.FieldType)) ∈ lw_all := lw_g (lw_at lw_m7 28 rfl) rfl
theorem q1673 : (Jvm.Cond.selects "java/util/ArrayList$Itr" ({ cls := "java/util/Iterator", name := "remove", desc := "()V" } : Jvm.MethodName) ({ cls := "java/util/ArrayList$Itr", name := "remove", desc := "()V" } : Jvm.MethodName)) ∈ lw_all := lw_g (lw_at lw_m7 102 rfl) rfl
theorem q1674 : (Jvm.Cond.unhidden "java/util/ArrayList$Itr" "remove" "()V") ∈ lw_tbl := lw_at lw_m7 103 rfl
theorem q1675 : (Jvm.Cond.instanceMethod ({ cls := "java/util/ArrayList$Itr", name := "remove", desc := "()V" } : Jvm.MethodName)) ∈ lw_all := lw_g (lw_at lw_m7 104 rfl) rfl
theorem q1676 : (Jvm.Cond.publicMethod ({ cls := "java/util/ArrayList$Itr", name := "remove", desc := "()V" } : Jvm.MethodName)) ∈ lw_tbl := lw_at lw_m7 105 rfl
theorem q1677 : (Jvm.Cond.codeWith ({ cls := "java/util/ArrayList$Itr", name := "remove", desc := "()V" } : Jvm.MethodName) prog_48_method_4_code (2 : Nat) (Option.none : Option Jvm.ClassFile.FieldType) [((19 : Nat), (55 : Nat), (58 : Nat), (51 : Nat))]) ∈ lw_all := lw_g (lw_at lw_m7 106 rfl) rfl
theorem q1678 : (Jvm.Cond.classLink "java/util/ArrayList$Itr" (44 : Nat) "java/lang/IllegalStateException") ∈ lw_all := lw_g (lw_at lw_m7 107 rfl) rfl
theorem q1679 : (Jvm.Cond.methodLink "java/util/ArrayList$Itr" (46 : Nat) ({ cls := "java/lang/IllegalStateException", name := "<init>", desc := "()V" } : Jvm.MethodName)) ∈ lw_all := lw_g (lw_at lw_m7 108 rfl) rfl
theorem q1680 : (Jvm.Cond.methodLink "java/util/ArrayList$Itr" (47 : Nat) ({ cls := "java/util/ArrayList", name := "remove", desc := "(I)Ljava/lang/Object;" } : Jvm.MethodName)) ∈ lw_all := lw_g (lw_at lw_m7 109 rfl) rfl
theorem q1681 : (Jvm.Cond.classLink "java/util/ArrayList$Itr" (41 : Nat) "java/util/ConcurrentModificationException") ∈ lw_all := lw_g (lw_at lw_m7 110 rfl) rfl
theorem q1682 : (Jvm.Cond.methodLink "java/util/ArrayList$Itr" (43 : Nat) ({ cls := "java/util/ConcurrentModificationException", name := "<init>", desc := "()V" } : Jvm.MethodName)) ∈ lw_all := lw_g (lw_at lw_m7 111 rfl) rfl
theorem q3011 : (Jvm.Cond.castable "java/util/ArrayList$Itr" "java/lang/Object") ∈ lw_tbl := lw_at lw_m13 0 rfl
theorem in_J22 : ∀ w ∈ wsJ220, w ∈ lw_all := lw_in wsJ220 [1222, 1224, 1226, 1228] (by decide +kernel) (by decide +kernel)
/-! java/util/ImmutableCollections$ListItr -/
set_option maxRecDepth 100000
def RJ23 : String := "java/util/ImmutableCollections$ListItr"
def TJ23 : u_T := fun k => match k with
  | 0 => ("java/util/ImmutableCollections$ListItr", "list", "Ljava/util/List;", true)
  | 1 => ("java/util/ImmutableCollections$ListItr", "size", "I", true)
  | 2 => ("java/util/ImmutableCollections$ListItr", "isListIterator", "Z", true)
  | _ => ("java/util/ImmutableCollections$ListItr", "cursor", "I", false)
def tyJ23 : Nat → FieldType := fun k => match k with
  | 0 => .object "java/util/List"
  | 1 => .int
  | 2 => .boolean
  | _ => .int
abbrev wsJ230 : List Cond := u_ws RJ23 TJ23 4
theorem nmJ23 : ∀ a, a < 4 → ∀ b, b < 4 → a ≠ b → (TJ23 a).2.1 ≠ (TJ23 b).2.1 := by decide +kernel
theorem tyJ23_ok : ∀ k, k < 4 → parseFieldDescriptor (TJ23 k).2.2.1 = some (tyJ23 k) := by decide +kernel
abbrev cJ23_init : ByteArray := prog_59_method_1_code
def yJ23_init : MethodName := ⟨RJ23, "<init>", "(Ljava/util/List;I)V"⟩
def dkwJ23_init_1 : List UInt8 := [177]
abbrev dktJ23_init_1 : List UInt8 := dkwJ23_init_1 ++ []
def dkwJ23_init_0 : List UInt8 := [42, 183, 0, 1, 42, 43, 181, 0, 7, 42, 28, 181, 0, 13, 42, 3, 181, 0, 17, 42, 3, 181, 0, 20]
abbrev dktJ23_init_0 : List UInt8 := dkwJ23_init_0 ++ dktJ23_init_1
theorem dksJ23_init_0 : cJ23_init.data.toList.drop 0 = dktJ23_init_0 := by decide +kernel
theorem dksJ23_init_1 : cJ23_init.data.toList.drop 24 = dktJ23_init_1 := dk_seg dksJ23_init_0 24 rfl rfl
theorem dJ23_init_0 : decode cJ23_init 0 = .ok (.aload_n 0, 1) := dk_42 (dk_at dksJ23_init_0 0 rfl rfl)
theorem dJ23_init_1 : decode cJ23_init 1 = .ok (.invokespecial 1, 3) := dk_183 0 1 (dk_at dksJ23_init_0 1 rfl rfl)
theorem dJ23_init_4 : decode cJ23_init 4 = .ok (.aload_n 0, 1) := dk_42 (dk_at dksJ23_init_0 4 rfl rfl)
theorem dJ23_init_5 : decode cJ23_init 5 = .ok (.aload_n 1, 1) := dk_43 (dk_at dksJ23_init_0 5 rfl rfl)
theorem dJ23_init_6 : decode cJ23_init 6 = .ok (.putfield 7, 3) := dk_181 0 7 (dk_at dksJ23_init_0 6 rfl rfl)
theorem dJ23_init_9 : decode cJ23_init 9 = .ok (.aload_n 0, 1) := dk_42 (dk_at dksJ23_init_0 9 rfl rfl)
theorem dJ23_init_10 : decode cJ23_init 10 = .ok (.iload_n 2, 1) := dk_28 (dk_at dksJ23_init_0 10 rfl rfl)
theorem dJ23_init_11 : decode cJ23_init 11 = .ok (.putfield 13, 3) := dk_181 0 13 (dk_at dksJ23_init_0 11 rfl rfl)
theorem dJ23_init_14 : decode cJ23_init 14 = .ok (.aload_n 0, 1) := dk_42 (dk_at dksJ23_init_0 14 rfl rfl)
theorem dJ23_init_15 : decode cJ23_init 15 = .ok (.iconst 0, 1) := dk_3 (dk_at dksJ23_init_0 15 rfl rfl)
theorem dJ23_init_16 : decode cJ23_init 16 = .ok (.putfield 17, 3) := dk_181 0 17 (dk_at dksJ23_init_0 16 rfl rfl)
theorem dJ23_init_19 : decode cJ23_init 19 = .ok (.aload_n 0, 1) := dk_42 (dk_at dksJ23_init_0 19 rfl rfl)
theorem dJ23_init_20 : decode cJ23_init 20 = .ok (.iconst 0, 1) := dk_3 (dk_at dksJ23_init_0 20 rfl rfl)
theorem dJ23_init_21 : decode cJ23_init 21 = .ok (.putfield 20, 3) := dk_181 0 20 (dk_at dksJ23_init_0 21 rfl rfl)
theorem dJ23_init_24 : decode cJ23_init 24 = .ok (.return_, 1) := dk_177 (dk_at dksJ23_init_1 0 rfl rfl)
abbrev cJ23_hasNext : ByteArray := prog_59_method_3_code
def yJ23_hasNext : MethodName := ⟨RJ23, "hasNext", "()Z"⟩
def dkwJ23_hasNext_0 : List UInt8 := [42, 180, 0, 17, 42, 180, 0, 13, 159, 0, 7, 4, 167, 0, 4, 3, 172]
abbrev dktJ23_hasNext_0 : List UInt8 := dkwJ23_hasNext_0 ++ []
theorem dksJ23_hasNext_0 : cJ23_hasNext.data.toList.drop 0 = dktJ23_hasNext_0 := by decide +kernel
theorem dJ23_hasNext_0 : decode cJ23_hasNext 0 = .ok (.aload_n 0, 1) := dk_42 (dk_at dksJ23_hasNext_0 0 rfl rfl)
theorem dJ23_hasNext_1 : decode cJ23_hasNext 1 = .ok (.getfield 17, 3) := dk_180 0 17 (dk_at dksJ23_hasNext_0 1 rfl rfl)
theorem dJ23_hasNext_4 : decode cJ23_hasNext 4 = .ok (.aload_n 0, 1) := dk_42 (dk_at dksJ23_hasNext_0 4 rfl rfl)
theorem dJ23_hasNext_5 : decode cJ23_hasNext 5 = .ok (.getfield 13, 3) := dk_180 0 13 (dk_at dksJ23_hasNext_0 5 rfl rfl)
theorem dJ23_hasNext_8 : decode cJ23_hasNext 8 = .ok (.if_icmp .eq 7, 3) := dk_159 0 7 (dk_at dksJ23_hasNext_0 8 rfl rfl)
theorem dJ23_hasNext_11 : decode cJ23_hasNext 11 = .ok (.iconst 1, 1) := dk_4 (dk_at dksJ23_hasNext_0 11 rfl rfl)
theorem dJ23_hasNext_12 : decode cJ23_hasNext 12 = .ok (.goto 4, 3) := dk_167 0 4 (dk_at dksJ23_hasNext_0 12 rfl rfl)
theorem dJ23_hasNext_15 : decode cJ23_hasNext 15 = .ok (.iconst 0, 1) := dk_3 (dk_at dksJ23_hasNext_0 15 rfl rfl)
theorem dJ23_hasNext_16 : decode cJ23_hasNext 16 = .ok (.ireturn, 1) := dk_172 (dk_at dksJ23_hasNext_0 16 rfl rfl)
abbrev cJ23_next : ByteArray := prog_59_method_4_code
def yJ23_next : MethodName := ⟨RJ23, "next", "()Ljava/lang/Object;"⟩
def dkwJ23_next_1 : List UInt8 := [176, 76, 187, 0, 32, 89, 183, 0, 34, 191]
abbrev dktJ23_next_1 : List UInt8 := dkwJ23_next_1 ++ []
def dkwJ23_next_0 : List UInt8 := [42, 180, 0, 17, 60, 42, 180, 0, 7, 27, 185, 0, 24, 2, 0, 77, 42, 27, 4, 96, 181, 0, 17, 44]
abbrev dktJ23_next_0 : List UInt8 := dkwJ23_next_0 ++ dktJ23_next_1
theorem dksJ23_next_0 : cJ23_next.data.toList.drop 0 = dktJ23_next_0 := by decide +kernel
theorem dksJ23_next_1 : cJ23_next.data.toList.drop 24 = dktJ23_next_1 := dk_seg dksJ23_next_0 24 rfl rfl
theorem dJ23_next_0 : decode cJ23_next 0 = .ok (.aload_n 0, 1) := dk_42 (dk_at dksJ23_next_0 0 rfl rfl)
theorem dJ23_next_1 : decode cJ23_next 1 = .ok (.getfield 17, 3) := dk_180 0 17 (dk_at dksJ23_next_0 1 rfl rfl)
theorem dJ23_next_4 : decode cJ23_next 4 = .ok (.istore_n 1, 1) := dk_60 (dk_at dksJ23_next_0 4 rfl rfl)
theorem dJ23_next_5 : decode cJ23_next 5 = .ok (.aload_n 0, 1) := dk_42 (dk_at dksJ23_next_0 5 rfl rfl)
theorem dJ23_next_6 : decode cJ23_next 6 = .ok (.getfield 7, 3) := dk_180 0 7 (dk_at dksJ23_next_0 6 rfl rfl)
theorem dJ23_next_9 : decode cJ23_next 9 = .ok (.iload_n 1, 1) := dk_27 (dk_at dksJ23_next_0 9 rfl rfl)
theorem dJ23_next_10 : decode cJ23_next 10 = .ok (.invokeinterface 24 2, 5) := by decide +kernel
theorem dJ23_next_15 : decode cJ23_next 15 = .ok (.astore_n 2, 1) := dk_77 (dk_at dksJ23_next_0 15 rfl rfl)
theorem dJ23_next_16 : decode cJ23_next 16 = .ok (.aload_n 0, 1) := dk_42 (dk_at dksJ23_next_0 16 rfl rfl)
theorem dJ23_next_17 : decode cJ23_next 17 = .ok (.iload_n 1, 1) := dk_27 (dk_at dksJ23_next_0 17 rfl rfl)
theorem dJ23_next_18 : decode cJ23_next 18 = .ok (.iconst 1, 1) := dk_4 (dk_at dksJ23_next_0 18 rfl rfl)
theorem dJ23_next_19 : decode cJ23_next 19 = .ok (.iadd, 1) := dk_96 (dk_at dksJ23_next_0 19 rfl rfl)
theorem dJ23_next_20 : decode cJ23_next 20 = .ok (.putfield 17, 3) := dk_181 0 17 (dk_at dksJ23_next_0 20 rfl rfl)
theorem dJ23_next_23 : decode cJ23_next 23 = .ok (.aload_n 2, 1) := dk_44 (dk_at dksJ23_next_0 23 rfl rfl)
theorem dJ23_next_24 : decode cJ23_next 24 = .ok (.areturn, 1) := dk_176 (dk_at dksJ23_next_1 0 rfl rfl)
theorem dJ23_next_25 : decode cJ23_next 25 = .ok (.astore_n 1, 1) := dk_76 (dk_at dksJ23_next_1 1 rfl rfl)
theorem dJ23_next_26 : decode cJ23_next 26 = .ok (.new 32, 3) := dk_187 0 32 (dk_at dksJ23_next_1 2 rfl rfl)
theorem dJ23_next_29 : decode cJ23_next 29 = .ok (.dup, 1) := dk_89 (dk_at dksJ23_next_1 5 rfl rfl)
theorem dJ23_next_30 : decode cJ23_next 30 = .ok (.invokespecial 34, 3) := dk_183 0 34 (dk_at dksJ23_next_1 6 rfl rfl)
theorem dJ23_next_33 : decode cJ23_next 33 = .ok (.athrow, 1) := dk_191 (dk_at dksJ23_next_1 9 rfl rfl)
abbrev cJ23_remove : ByteArray := prog_59_method_5_code
def yJ23_remove : MethodName := ⟨RJ23, "remove", "()V"⟩
theorem dJ23_remove_0 : decode cJ23_remove 0 = .ok (.invokestatic 35, 3) := by decide +kernel
theorem dJ23_remove_3 : decode cJ23_remove 3 = .ok (.athrow, 1) := by decide +kernel
theorem q165 : (Jvm.Cond.initialized "java/util/ImmutableCollections$ListItr") ∈ lw_all := lw_g (lw_at lw_m1 34 rfl) rfl
theorem q841 : (Jvm.Cond.selects "java/util/ImmutableCollections$ListItr" ({ cls := "java/lang/Object", name := "getClass", desc := "()Ljava/lang/Class;" } : Jvm.MethodName) ({ cls := "java/lang/Object", name := "getClass", desc := "()Ljava/lang/Class;" } : Jvm.MethodName)) ∈ lw_all := lw_g (lw_at lw_m3 230 rfl) rfl
theorem q1237 : (Jvm.Cond.instantiable "java/util/ImmutableCollections$ListItr" (4 : Nat)) ∈ lw_all := lw_g (lw_at lw_m5 146 rfl) rfl
theorem q1242 : (Jvm.Cond.instanceMethod ({ cls := "java/util/ImmutableCollections$ListItr", name := "<init>", desc := "(Ljava/util/List;I)V" } : Jvm.MethodName)) ∈ lw_all := lw_g (lw_at lw_m5 151 rfl) rfl
theorem q1243 : (Jvm.Cond.code ({ cls := "java/util/ImmutableCollections$ListItr", name := "<init>", desc := "(Ljava/util/List;I)V" } : Jvm.MethodName) prog_59_method_1_code (3 : Nat) (Option.none : Option Jvm.ClassFile.FieldType)) ∈ lw_all := lw_g (lw_at lw_m5 152 rfl) rfl
theorem q1244 : (Jvm.Cond.methodLink "java/util/ImmutableCollections$ListItr" (1 : Nat) ({ cls := "java/lang/Object", name := "<init>", desc := "()V" } : Jvm.MethodName)) ∈ lw_all := lw_g (lw_at lw_m5 153 rfl) rfl
theorem q1245 : (Jvm.Cond.fieldLink "java/util/ImmutableCollections$ListItr" (7 : Nat) "java/util/ImmutableCollections$ListItr" "list" "Ljava/util/List;") ∈ lw_all := lw_g (lw_at lw_m5 154 rfl) rfl
theorem q1246 : (Jvm.Cond.fieldLink "java/util/ImmutableCollections$ListItr" (13 : Nat) "java/util/ImmutableCollections$ListItr" "size" "I") ∈ lw_all := lw_g (lw_at lw_m5 155 rfl) rfl
theorem q1247 : (Jvm.Cond.fieldLink "java/util/ImmutableCollections$ListItr" (20 : Nat) "java/util/ImmutableCollections$ListItr" "isListIterator" "Z") ∈ lw_all := lw_g (lw_at lw_m5 156 rfl) rfl
theorem q1248 : (Jvm.Cond.fieldLink "java/util/ImmutableCollections$ListItr" (17 : Nat) "java/util/ImmutableCollections$ListItr" "cursor" "I") ∈ lw_all := lw_g (lw_at lw_m5 157 rfl) rfl
theorem q1249 : (Jvm.Cond.laysFinal "java/util/ImmutableCollections$ListItr" "java/util/ImmutableCollections$ListItr" "list" "Ljava/util/List;") ∈ lw_all := lw_g (lw_at lw_m5 158 rfl) rfl
theorem q1250 : (Jvm.Cond.soleField "java/util/ImmutableCollections$ListItr" "list") ∈ lw_all := lw_g (lw_at lw_m5 159 rfl) rfl
theorem q1251 : (Jvm.Cond.laysFinal "java/util/ImmutableCollections$ListItr" "java/util/ImmutableCollections$ListItr" "size" "I") ∈ lw_all := lw_g (lw_at lw_m5 160 rfl) rfl
theorem q1252 : (Jvm.Cond.soleField "java/util/ImmutableCollections$ListItr" "size") ∈ lw_all := lw_g (lw_at lw_m5 161 rfl) rfl
theorem q1253 : (Jvm.Cond.laysFinal "java/util/ImmutableCollections$ListItr" "java/util/ImmutableCollections$ListItr" "isListIterator" "Z") ∈ lw_all := lw_g (lw_at lw_m5 162 rfl) rfl
theorem q1254 : (Jvm.Cond.soleField "java/util/ImmutableCollections$ListItr" "isListIterator") ∈ lw_all := lw_g (lw_at lw_m5 163 rfl) rfl
theorem q1255 : (Jvm.Cond.lays "java/util/ImmutableCollections$ListItr" "java/util/ImmutableCollections$ListItr" "cursor" "I") ∈ lw_all := lw_g (lw_at lw_m5 164 rfl) rfl
theorem q1256 : (Jvm.Cond.soleField "java/util/ImmutableCollections$ListItr" "cursor") ∈ lw_all := lw_g (lw_at lw_m5 165 rfl) rfl
theorem q1257 : (Jvm.Cond.superclass "java/util/ImmutableCollections$ListItr" "java/lang/Object") ∈ lw_all := lw_g (lw_at lw_m5 166 rfl) rfl
theorem q1339 : (Jvm.Cond.castable "java/util/ImmutableCollections$ListItr" "java/util/Iterator") ∈ lw_tbl := lw_at lw_m6 8 rfl
theorem q1340 : (Jvm.Cond.selects "java/util/ImmutableCollections$ListItr" ({ cls := "java/util/Iterator", name := "hasNext", desc := "()Z" } : Jvm.MethodName) ({ cls := "java/util/ImmutableCollections$ListItr", name := "hasNext", desc := "()Z" } : Jvm.MethodName)) ∈ lw_all := lw_g (lw_at lw_m6 9 rfl) rfl
theorem q1341 : (Jvm.Cond.unhidden "java/util/ImmutableCollections$ListItr" "hasNext" "()Z") ∈ lw_tbl := lw_at lw_m6 10 rfl
theorem q1342 : (Jvm.Cond.instanceMethod ({ cls := "java/util/ImmutableCollections$ListItr", name := "hasNext", desc := "()Z" } : Jvm.MethodName)) ∈ lw_all := lw_g (lw_at lw_m6 11 rfl) rfl
theorem q1343 : (Jvm.Cond.publicMethod ({ cls := "java/util/ImmutableCollections$ListItr", name := "hasNext", desc := "()Z" } : Jvm.MethodName)) ∈ lw_tbl := lw_at lw_m6 12 rfl
theorem q1344 : (Jvm.Cond.code ({ cls := "java/util/ImmutableCollections$ListItr", name := "hasNext", desc := "()Z" } : Jvm.MethodName) prog_59_method_3_code (1 : Nat) (Option.some Jvm.ClassFile.FieldType.boolean)) ∈ lw_all := lw_g (lw_at lw_m6 13 rfl) rfl
theorem q1602 : (Jvm.Cond.selects "java/util/ImmutableCollections$ListItr" ({ cls := "java/util/Iterator", name := "next", desc := "()Ljava/lang/Object;" } : Jvm.MethodName) ({ cls := "java/util/ImmutableCollections$ListItr", name := "next", desc := "()Ljava/lang/Object;" } : Jvm.MethodName)) ∈ lw_all := lw_g (lw_at lw_m7 31 rfl) rfl
theorem q1603 : (Jvm.Cond.unhidden "java/util/ImmutableCollections$ListItr" "next" "()Ljava/lang/Object;") ∈ lw_tbl := lw_at lw_m7 32 rfl
theorem q1604 : (Jvm.Cond.instanceMethod ({ cls := "java/util/ImmutableCollections$ListItr", name := "next", desc := "()Ljava/lang/Object;" } : Jvm.MethodName)) ∈ lw_all := lw_g (lw_at lw_m7 33 rfl) rfl
theorem q1605 : (Jvm.Cond.publicMethod ({ cls := "java/util/ImmutableCollections$ListItr", name := "next", desc := "()Ljava/lang/Object;" } : Jvm.MethodName)) ∈ lw_tbl := lw_at lw_m7 34 rfl
theorem q1606 : (Jvm.Cond.codeWith ({ cls := "java/util/ImmutableCollections$ListItr", name := "next", desc := "()Ljava/lang/Object;" } : Jvm.MethodName) prog_59_method_4_code (3 : Nat) (Option.some (Jvm.ClassFile.FieldType.object "java/lang/Object")) [((0 : Nat), (24 : Nat), (25 : Nat), (30 : Nat))]) ∈ lw_all := lw_g (lw_at lw_m7 35 rfl) rfl
theorem q1607 : (Jvm.Cond.interfaceEntry "java/util/ImmutableCollections$ListItr" (24 : Nat)) ∈ lw_tbl := lw_at lw_m7 36 rfl
theorem q1608 : (Jvm.Cond.methodLink "java/util/ImmutableCollections$ListItr" (24 : Nat) ({ cls := "java/util/List", name := "get", desc := "(I)Ljava/lang/Object;" } : Jvm.MethodName)) ∈ lw_all := lw_g (lw_at lw_m7 37 rfl) rfl
theorem q1609 : (Jvm.Cond.classLink "java/util/ImmutableCollections$ListItr" (32 : Nat) "java/util/NoSuchElementException") ∈ lw_all := lw_g (lw_at lw_m7 38 rfl) rfl
theorem q1610 : (Jvm.Cond.methodLink "java/util/ImmutableCollections$ListItr" (34 : Nat) ({ cls := "java/util/NoSuchElementException", name := "<init>", desc := "()V" } : Jvm.MethodName)) ∈ lw_all := lw_g (lw_at lw_m7 39 rfl) rfl
theorem q1685 : (Jvm.Cond.selects "java/util/ImmutableCollections$ListItr" ({ cls := "java/util/Iterator", name := "remove", desc := "()V" } : Jvm.MethodName) ({ cls := "java/util/ImmutableCollections$ListItr", name := "remove", desc := "()V" } : Jvm.MethodName)) ∈ lw_all := lw_g (lw_at lw_m7 114 rfl) rfl
theorem q1686 : (Jvm.Cond.unhidden "java/util/ImmutableCollections$ListItr" "remove" "()V") ∈ lw_tbl := lw_at lw_m7 115 rfl
theorem q1687 : (Jvm.Cond.instanceMethod ({ cls := "java/util/ImmutableCollections$ListItr", name := "remove", desc := "()V" } : Jvm.MethodName)) ∈ lw_all := lw_g (lw_at lw_m7 116 rfl) rfl
theorem q1688 : (Jvm.Cond.publicMethod ({ cls := "java/util/ImmutableCollections$ListItr", name := "remove", desc := "()V" } : Jvm.MethodName)) ∈ lw_tbl := lw_at lw_m7 117 rfl
theorem q1689 : (Jvm.Cond.code ({ cls := "java/util/ImmutableCollections$ListItr", name := "remove", desc := "()V" } : Jvm.MethodName) prog_59_method_5_code (1 : Nat) (Option.none : Option Jvm.ClassFile.FieldType)) ∈ lw_all := lw_g (lw_at lw_m7 118 rfl) rfl
theorem q3012 : (Jvm.Cond.castable "java/util/ImmutableCollections$ListItr" "java/lang/Object") ∈ lw_tbl := lw_at lw_m13 1 rfl
theorem in_J23 : ∀ w ∈ wsJ230, w ∈ lw_all := lw_in wsJ230 [1249, 1251, 1253, 1255] (by decide +kernel) (by decide +kernel)
/-! java/util/AbstractList$Itr -/
set_option maxRecDepth 100000
def RJ24 : String := "java/util/AbstractList$Itr"
abbrev cJ24_hasNext : ByteArray := prog_43_method_2_code
def yJ24_hasNext : MethodName := ⟨RJ24, "hasNext", "()Z"⟩
def dkwJ24_hasNext_0 : List UInt8 := [42, 180, 0, 13, 42, 180, 0, 1, 182, 0, 28, 159, 0, 7, 4, 167, 0, 4, 3, 172]
abbrev dktJ24_hasNext_0 : List UInt8 := dkwJ24_hasNext_0 ++ []
theorem dksJ24_hasNext_0 : cJ24_hasNext.data.toList.drop 0 = dktJ24_hasNext_0 := by decide +kernel
theorem dJ24_hasNext_0 : decode cJ24_hasNext 0 = .ok (.aload_n 0, 1) := dk_42 (dk_at dksJ24_hasNext_0 0 rfl rfl)
theorem dJ24_hasNext_1 : decode cJ24_hasNext 1 = .ok (.getfield 13, 3) := dk_180 0 13 (dk_at dksJ24_hasNext_0 1 rfl rfl)
theorem dJ24_hasNext_4 : decode cJ24_hasNext 4 = .ok (.aload_n 0, 1) := dk_42 (dk_at dksJ24_hasNext_0 4 rfl rfl)
theorem dJ24_hasNext_5 : decode cJ24_hasNext 5 = .ok (.getfield 1, 3) := dk_180 0 1 (dk_at dksJ24_hasNext_0 5 rfl rfl)
theorem dJ24_hasNext_8 : decode cJ24_hasNext 8 = .ok (.invokevirtual 28, 3) := dk_182 0 28 (dk_at dksJ24_hasNext_0 8 rfl rfl)
theorem dJ24_hasNext_11 : decode cJ24_hasNext 11 = .ok (.if_icmp .eq 7, 3) := dk_159 0 7 (dk_at dksJ24_hasNext_0 11 rfl rfl)
theorem dJ24_hasNext_14 : decode cJ24_hasNext 14 = .ok (.iconst 1, 1) := dk_4 (dk_at dksJ24_hasNext_0 14 rfl rfl)
theorem dJ24_hasNext_15 : decode cJ24_hasNext 15 = .ok (.goto 4, 3) := dk_167 0 4 (dk_at dksJ24_hasNext_0 15 rfl rfl)
theorem dJ24_hasNext_18 : decode cJ24_hasNext 18 = .ok (.iconst 0, 1) := dk_3 (dk_at dksJ24_hasNext_0 18 rfl rfl)
theorem dJ24_hasNext_19 : decode cJ24_hasNext 19 = .ok (.ireturn, 1) := dk_172 (dk_at dksJ24_hasNext_0 19 rfl rfl)
abbrev cJ24_next : ByteArray := prog_43_method_3_code
def yJ24_next : MethodName := ⟨RJ24, "next", "()Ljava/lang/Object;"⟩
def dkwJ24_next_1 : List UInt8 := [27, 4, 96, 181, 0, 13, 44, 176, 76, 42, 182, 0, 32, 187, 0, 41, 89, 43, 183, 0, 43, 191]
abbrev dktJ24_next_1 : List UInt8 := dkwJ24_next_1 ++ []
def dkwJ24_next_0 : List UInt8 := [42, 182, 0, 32, 42, 180, 0, 13, 60, 42, 180, 0, 1, 27, 182, 0, 35, 77, 42, 27, 181, 0, 17, 42]
abbrev dktJ24_next_0 : List UInt8 := dkwJ24_next_0 ++ dktJ24_next_1
theorem dksJ24_next_0 : cJ24_next.data.toList.drop 0 = dktJ24_next_0 := by decide +kernel
theorem dksJ24_next_1 : cJ24_next.data.toList.drop 24 = dktJ24_next_1 := dk_seg dksJ24_next_0 24 rfl rfl
theorem dJ24_next_0 : decode cJ24_next 0 = .ok (.aload_n 0, 1) := dk_42 (dk_at dksJ24_next_0 0 rfl rfl)
theorem dJ24_next_1 : decode cJ24_next 1 = .ok (.invokevirtual 32, 3) := dk_182 0 32 (dk_at dksJ24_next_0 1 rfl rfl)
theorem dJ24_next_4 : decode cJ24_next 4 = .ok (.aload_n 0, 1) := dk_42 (dk_at dksJ24_next_0 4 rfl rfl)
theorem dJ24_next_5 : decode cJ24_next 5 = .ok (.getfield 13, 3) := dk_180 0 13 (dk_at dksJ24_next_0 5 rfl rfl)
theorem dJ24_next_8 : decode cJ24_next 8 = .ok (.istore_n 1, 1) := dk_60 (dk_at dksJ24_next_0 8 rfl rfl)
theorem dJ24_next_9 : decode cJ24_next 9 = .ok (.aload_n 0, 1) := dk_42 (dk_at dksJ24_next_0 9 rfl rfl)
theorem dJ24_next_10 : decode cJ24_next 10 = .ok (.getfield 1, 3) := dk_180 0 1 (dk_at dksJ24_next_0 10 rfl rfl)
theorem dJ24_next_13 : decode cJ24_next 13 = .ok (.iload_n 1, 1) := dk_27 (dk_at dksJ24_next_0 13 rfl rfl)
theorem dJ24_next_14 : decode cJ24_next 14 = .ok (.invokevirtual 35, 3) := dk_182 0 35 (dk_at dksJ24_next_0 14 rfl rfl)
theorem dJ24_next_17 : decode cJ24_next 17 = .ok (.astore_n 2, 1) := dk_77 (dk_at dksJ24_next_0 17 rfl rfl)
theorem dJ24_next_18 : decode cJ24_next 18 = .ok (.aload_n 0, 1) := dk_42 (dk_at dksJ24_next_0 18 rfl rfl)
theorem dJ24_next_19 : decode cJ24_next 19 = .ok (.iload_n 1, 1) := dk_27 (dk_at dksJ24_next_0 19 rfl rfl)
theorem dJ24_next_20 : decode cJ24_next 20 = .ok (.putfield 17, 3) := dk_181 0 17 (dk_at dksJ24_next_0 20 rfl rfl)
theorem dJ24_next_23 : decode cJ24_next 23 = .ok (.aload_n 0, 1) := dk_42 (dk_at dksJ24_next_0 23 rfl rfl)
theorem dJ24_next_24 : decode cJ24_next 24 = .ok (.iload_n 1, 1) := dk_27 (dk_at dksJ24_next_1 0 rfl rfl)
theorem dJ24_next_25 : decode cJ24_next 25 = .ok (.iconst 1, 1) := dk_4 (dk_at dksJ24_next_1 1 rfl rfl)
theorem dJ24_next_26 : decode cJ24_next 26 = .ok (.iadd, 1) := dk_96 (dk_at dksJ24_next_1 2 rfl rfl)
theorem dJ24_next_27 : decode cJ24_next 27 = .ok (.putfield 13, 3) := dk_181 0 13 (dk_at dksJ24_next_1 3 rfl rfl)
theorem dJ24_next_30 : decode cJ24_next 30 = .ok (.aload_n 2, 1) := dk_44 (dk_at dksJ24_next_1 6 rfl rfl)
theorem dJ24_next_31 : decode cJ24_next 31 = .ok (.areturn, 1) := dk_176 (dk_at dksJ24_next_1 7 rfl rfl)
theorem dJ24_next_32 : decode cJ24_next 32 = .ok (.astore_n 1, 1) := dk_76 (dk_at dksJ24_next_1 8 rfl rfl)
theorem dJ24_next_33 : decode cJ24_next 33 = .ok (.aload_n 0, 1) := dk_42 (dk_at dksJ24_next_1 9 rfl rfl)
theorem dJ24_next_34 : decode cJ24_next 34 = .ok (.invokevirtual 32, 3) := dk_182 0 32 (dk_at dksJ24_next_1 10 rfl rfl)
theorem dJ24_next_37 : decode cJ24_next 37 = .ok (.new 41, 3) := dk_187 0 41 (dk_at dksJ24_next_1 13 rfl rfl)
theorem dJ24_next_40 : decode cJ24_next 40 = .ok (.dup, 1) := dk_89 (dk_at dksJ24_next_1 16 rfl rfl)
theorem dJ24_next_41 : decode cJ24_next 41 = .ok (.aload_n 1, 1) := dk_43 (dk_at dksJ24_next_1 17 rfl rfl)
theorem dJ24_next_42 : decode cJ24_next 42 = .ok (.invokespecial 43, 3) := dk_183 0 43 (dk_at dksJ24_next_1 18 rfl rfl)
theorem dJ24_next_45 : decode cJ24_next 45 = .ok (.athrow, 1) := dk_191 (dk_at dksJ24_next_1 21 rfl rfl)
abbrev cJ24_checkForComodification : ByteArray := prog_43_method_5_code
def yJ24_checkForComodification : MethodName := ⟨RJ24, "checkForComodification", "()V"⟩
def dkwJ24_checkForComodification_0 : List UInt8 := [42, 180, 0, 1, 180, 0, 20, 42, 180, 0, 25, 159, 0, 11, 187, 0, 52, 89, 183, 0, 54, 191, 177]
abbrev dktJ24_checkForComodification_0 : List UInt8 := dkwJ24_checkForComodification_0 ++ []
theorem dksJ24_checkForComodification_0 : cJ24_checkForComodification.data.toList.drop 0 = dktJ24_checkForComodification_0 := by decide +kernel
theorem dJ24_checkForComodification_0 : decode cJ24_checkForComodification 0 = .ok (.aload_n 0, 1) := dk_42 (dk_at dksJ24_checkForComodification_0 0 rfl rfl)
theorem dJ24_checkForComodification_1 : decode cJ24_checkForComodification 1 = .ok (.getfield 1, 3) := dk_180 0 1 (dk_at dksJ24_checkForComodification_0 1 rfl rfl)
theorem dJ24_checkForComodification_4 : decode cJ24_checkForComodification 4 = .ok (.getfield 20, 3) := dk_180 0 20 (dk_at dksJ24_checkForComodification_0 4 rfl rfl)
theorem dJ24_checkForComodification_7 : decode cJ24_checkForComodification 7 = .ok (.aload_n 0, 1) := dk_42 (dk_at dksJ24_checkForComodification_0 7 rfl rfl)
theorem dJ24_checkForComodification_8 : decode cJ24_checkForComodification 8 = .ok (.getfield 25, 3) := dk_180 0 25 (dk_at dksJ24_checkForComodification_0 8 rfl rfl)
theorem dJ24_checkForComodification_11 : decode cJ24_checkForComodification 11 = .ok (.if_icmp .eq 11, 3) := dk_159 0 11 (dk_at dksJ24_checkForComodification_0 11 rfl rfl)
theorem dJ24_checkForComodification_14 : decode cJ24_checkForComodification 14 = .ok (.new 52, 3) := dk_187 0 52 (dk_at dksJ24_checkForComodification_0 14 rfl rfl)
theorem dJ24_checkForComodification_17 : decode cJ24_checkForComodification 17 = .ok (.dup, 1) := dk_89 (dk_at dksJ24_checkForComodification_0 17 rfl rfl)
theorem dJ24_checkForComodification_18 : decode cJ24_checkForComodification 18 = .ok (.invokespecial 54, 3) := dk_183 0 54 (dk_at dksJ24_checkForComodification_0 18 rfl rfl)
theorem dJ24_checkForComodification_21 : decode cJ24_checkForComodification 21 = .ok (.athrow, 1) := dk_191 (dk_at dksJ24_checkForComodification_0 21 rfl rfl)
theorem dJ24_checkForComodification_22 : decode cJ24_checkForComodification 22 = .ok (.return_, 1) := dk_177 (dk_at dksJ24_checkForComodification_0 22 rfl rfl)
abbrev cJ24_remove : ByteArray := prog_43_method_4_code
def yJ24_remove : MethodName := ⟨RJ24, "remove", "()V"⟩
def dkwJ24_remove_3 : List UInt8 := [187, 0, 52, 89, 183, 0, 54, 191, 177]
abbrev dktJ24_remove_3 : List UInt8 := dkwJ24_remove_3 ++ []
def dkwJ24_remove_2 : List UInt8 := [100, 181, 0, 13, 42, 2, 181, 0, 17, 42, 42, 180, 0, 1, 180, 0, 20, 181, 0, 25, 167, 0, 12, 76]
abbrev dktJ24_remove_2 : List UInt8 := dkwJ24_remove_2 ++ dktJ24_remove_3
def dkwJ24_remove_1 : List UInt8 := [180, 0, 17, 182, 0, 49, 87, 42, 180, 0, 17, 42, 180, 0, 13, 162, 0, 13, 42, 89, 180, 0, 13, 4]
abbrev dktJ24_remove_1 : List UInt8 := dkwJ24_remove_1 ++ dktJ24_remove_2
def dkwJ24_remove_0 : List UInt8 := [42, 180, 0, 17, 156, 0, 11, 187, 0, 46, 89, 183, 0, 48, 191, 42, 182, 0, 32, 42, 180, 0, 1, 42]
abbrev dktJ24_remove_0 : List UInt8 := dkwJ24_remove_0 ++ dktJ24_remove_1
theorem dksJ24_remove_0 : cJ24_remove.data.toList.drop 0 = dktJ24_remove_0 := by decide +kernel
theorem dksJ24_remove_1 : cJ24_remove.data.toList.drop 24 = dktJ24_remove_1 := dk_seg dksJ24_remove_0 24 rfl rfl
theorem dksJ24_remove_2 : cJ24_remove.data.toList.drop 48 = dktJ24_remove_2 := dk_seg dksJ24_remove_1 24 rfl rfl
theorem dksJ24_remove_3 : cJ24_remove.data.toList.drop 72 = dktJ24_remove_3 := dk_seg dksJ24_remove_2 24 rfl rfl
theorem dJ24_remove_0 : decode cJ24_remove 0 = .ok (.aload_n 0, 1) := dk_42 (dk_at dksJ24_remove_0 0 rfl rfl)
theorem dJ24_remove_1 : decode cJ24_remove 1 = .ok (.getfield 17, 3) := dk_180 0 17 (dk_at dksJ24_remove_0 1 rfl rfl)
theorem dJ24_remove_4 : decode cJ24_remove 4 = .ok (.ifCond .ge 11, 3) := dk_156 0 11 (dk_at dksJ24_remove_0 4 rfl rfl)
theorem dJ24_remove_7 : decode cJ24_remove 7 = .ok (.new 46, 3) := dk_187 0 46 (dk_at dksJ24_remove_0 7 rfl rfl)
theorem dJ24_remove_10 : decode cJ24_remove 10 = .ok (.dup, 1) := dk_89 (dk_at dksJ24_remove_0 10 rfl rfl)
theorem dJ24_remove_11 : decode cJ24_remove 11 = .ok (.invokespecial 48, 3) := dk_183 0 48 (dk_at dksJ24_remove_0 11 rfl rfl)
theorem dJ24_remove_14 : decode cJ24_remove 14 = .ok (.athrow, 1) := dk_191 (dk_at dksJ24_remove_0 14 rfl rfl)
theorem dJ24_remove_15 : decode cJ24_remove 15 = .ok (.aload_n 0, 1) := dk_42 (dk_at dksJ24_remove_0 15 rfl rfl)
theorem dJ24_remove_16 : decode cJ24_remove 16 = .ok (.invokevirtual 32, 3) := dk_182 0 32 (dk_at dksJ24_remove_0 16 rfl rfl)
theorem dJ24_remove_19 : decode cJ24_remove 19 = .ok (.aload_n 0, 1) := dk_42 (dk_at dksJ24_remove_0 19 rfl rfl)
theorem dJ24_remove_20 : decode cJ24_remove 20 = .ok (.getfield 1, 3) := dk_180 0 1 (dk_at dksJ24_remove_0 20 rfl rfl)
theorem dJ24_remove_23 : decode cJ24_remove 23 = .ok (.aload_n 0, 1) := dk_42 (dk_at dksJ24_remove_0 23 rfl rfl)
theorem dJ24_remove_24 : decode cJ24_remove 24 = .ok (.getfield 17, 3) := dk_180 0 17 (dk_at dksJ24_remove_1 0 rfl rfl)
theorem dJ24_remove_27 : decode cJ24_remove 27 = .ok (.invokevirtual 49, 3) := dk_182 0 49 (dk_at dksJ24_remove_1 3 rfl rfl)
theorem dJ24_remove_30 : decode cJ24_remove 30 = .ok (.pop, 1) := dk_87 (dk_at dksJ24_remove_1 6 rfl rfl)
theorem dJ24_remove_31 : decode cJ24_remove 31 = .ok (.aload_n 0, 1) := dk_42 (dk_at dksJ24_remove_1 7 rfl rfl)
theorem dJ24_remove_32 : decode cJ24_remove 32 = .ok (.getfield 17, 3) := dk_180 0 17 (dk_at dksJ24_remove_1 8 rfl rfl)
theorem dJ24_remove_35 : decode cJ24_remove 35 = .ok (.aload_n 0, 1) := dk_42 (dk_at dksJ24_remove_1 11 rfl rfl)
theorem dJ24_remove_36 : decode cJ24_remove 36 = .ok (.getfield 13, 3) := dk_180 0 13 (dk_at dksJ24_remove_1 12 rfl rfl)
theorem dJ24_remove_39 : decode cJ24_remove 39 = .ok (.if_icmp .ge 13, 3) := dk_162 0 13 (dk_at dksJ24_remove_1 15 rfl rfl)
theorem dJ24_remove_42 : decode cJ24_remove 42 = .ok (.aload_n 0, 1) := dk_42 (dk_at dksJ24_remove_1 18 rfl rfl)
theorem dJ24_remove_43 : decode cJ24_remove 43 = .ok (.dup, 1) := dk_89 (dk_at dksJ24_remove_1 19 rfl rfl)
theorem dJ24_remove_44 : decode cJ24_remove 44 = .ok (.getfield 13, 3) := dk_180 0 13 (dk_at dksJ24_remove_1 20 rfl rfl)
theorem dJ24_remove_47 : decode cJ24_remove 47 = .ok (.iconst 1, 1) := dk_4 (dk_at dksJ24_remove_1 23 rfl rfl)
theorem dJ24_remove_48 : decode cJ24_remove 48 = .ok (.isub, 1) := dk_100 (dk_at dksJ24_remove_2 0 rfl rfl)
theorem dJ24_remove_49 : decode cJ24_remove 49 = .ok (.putfield 13, 3) := dk_181 0 13 (dk_at dksJ24_remove_2 1 rfl rfl)
theorem dJ24_remove_52 : decode cJ24_remove 52 = .ok (.aload_n 0, 1) := dk_42 (dk_at dksJ24_remove_2 4 rfl rfl)
theorem dJ24_remove_53 : decode cJ24_remove 53 = .ok (.iconst (-1), 1) := dk_2 (dk_at dksJ24_remove_2 5 rfl rfl)
theorem dJ24_remove_54 : decode cJ24_remove 54 = .ok (.putfield 17, 3) := dk_181 0 17 (dk_at dksJ24_remove_2 6 rfl rfl)
theorem dJ24_remove_57 : decode cJ24_remove 57 = .ok (.aload_n 0, 1) := dk_42 (dk_at dksJ24_remove_2 9 rfl rfl)
theorem dJ24_remove_58 : decode cJ24_remove 58 = .ok (.aload_n 0, 1) := dk_42 (dk_at dksJ24_remove_2 10 rfl rfl)
theorem dJ24_remove_59 : decode cJ24_remove 59 = .ok (.getfield 1, 3) := dk_180 0 1 (dk_at dksJ24_remove_2 11 rfl rfl)
theorem dJ24_remove_62 : decode cJ24_remove 62 = .ok (.getfield 20, 3) := dk_180 0 20 (dk_at dksJ24_remove_2 14 rfl rfl)
theorem dJ24_remove_65 : decode cJ24_remove 65 = .ok (.putfield 25, 3) := dk_181 0 25 (dk_at dksJ24_remove_2 17 rfl rfl)
theorem dJ24_remove_68 : decode cJ24_remove 68 = .ok (.goto 12, 3) := dk_167 0 12 (dk_at dksJ24_remove_2 20 rfl rfl)
theorem dJ24_remove_71 : decode cJ24_remove 71 = .ok (.astore_n 1, 1) := dk_76 (dk_at dksJ24_remove_2 23 rfl rfl)
theorem dJ24_remove_72 : decode cJ24_remove 72 = .ok (.new 52, 3) := dk_187 0 52 (dk_at dksJ24_remove_3 0 rfl rfl)
theorem dJ24_remove_75 : decode cJ24_remove 75 = .ok (.dup, 1) := dk_89 (dk_at dksJ24_remove_3 3 rfl rfl)
theorem dJ24_remove_76 : decode cJ24_remove 76 = .ok (.invokespecial 54, 3) := dk_183 0 54 (dk_at dksJ24_remove_3 4 rfl rfl)
theorem dJ24_remove_79 : decode cJ24_remove 79 = .ok (.athrow, 1) := dk_191 (dk_at dksJ24_remove_3 7 rfl rfl)
theorem dJ24_remove_80 : decode cJ24_remove 80 = .ok (.return_, 1) := dk_177 (dk_at dksJ24_remove_3 8 rfl rfl)
theorem q166 : (Jvm.Cond.initialized "java/util/AbstractList$Itr") ∈ lw_all := lw_g (lw_at lw_m1 35 rfl) rfl
theorem q221 : (Jvm.Cond.fieldLink "java/util/AbstractList$Itr" (20 : Nat) "java/util/AbstractList" "modCount" "I") ∈ lw_all := lw_g (lw_at lw_m1 90 rfl) rfl
theorem q1323 : (Jvm.Cond.instanceMethod ({ cls := "java/util/AbstractList$Itr", name := "hasNext", desc := "()Z" } : Jvm.MethodName)) ∈ lw_all := lw_g (lw_at lw_m5 232 rfl) rfl
theorem q1324 : (Jvm.Cond.publicMethod ({ cls := "java/util/AbstractList$Itr", name := "hasNext", desc := "()Z" } : Jvm.MethodName)) ∈ lw_tbl := lw_at lw_m5 233 rfl
theorem q1325 : (Jvm.Cond.code ({ cls := "java/util/AbstractList$Itr", name := "hasNext", desc := "()Z" } : Jvm.MethodName) prog_43_method_2_code (1 : Nat) (Option.some Jvm.ClassFile.FieldType.boolean)) ∈ lw_all := lw_g (lw_at lw_m5 234 rfl) rfl
theorem q1326 : (Jvm.Cond.methodLink "java/util/AbstractList$Itr" (28 : Nat) ({ cls := "java/util/AbstractList", name := "size", desc := "()I" } : Jvm.MethodName)) ∈ lw_all := lw_g (lw_at lw_m5 235 rfl) rfl
theorem q1357 : (Jvm.Cond.instanceMethod ({ cls := "java/util/AbstractList$Itr", name := "next", desc := "()Ljava/lang/Object;" } : Jvm.MethodName)) ∈ lw_all := lw_g (lw_at lw_m6 26 rfl) rfl
theorem q1358 : (Jvm.Cond.publicMethod ({ cls := "java/util/AbstractList$Itr", name := "next", desc := "()Ljava/lang/Object;" } : Jvm.MethodName)) ∈ lw_tbl := lw_at lw_m6 27 rfl
theorem q1359 : (Jvm.Cond.codeWith ({ cls := "java/util/AbstractList$Itr", name := "next", desc := "()Ljava/lang/Object;" } : Jvm.MethodName) prog_43_method_3_code (3 : Nat) (Option.some (Jvm.ClassFile.FieldType.object "java/lang/Object")) [((4 : Nat), (31 : Nat), (32 : Nat), (39 : Nat))]) ∈ lw_all := lw_g (lw_at lw_m6 28 rfl) rfl
theorem q1360 : (Jvm.Cond.methodLink "java/util/AbstractList$Itr" (32 : Nat) ({ cls := "java/util/AbstractList$Itr", name := "checkForComodification", desc := "()V" } : Jvm.MethodName)) ∈ lw_all := lw_g (lw_at lw_m6 29 rfl) rfl
theorem q1361 : (Jvm.Cond.instanceMethod ({ cls := "java/util/AbstractList$Itr", name := "checkForComodification", desc := "()V" } : Jvm.MethodName)) ∈ lw_all := lw_g (lw_at lw_m6 30 rfl) rfl
theorem q1362 : (Jvm.Cond.sameMethod "java/util/AbstractList$Itr" "java/util/AbstractList$Itr" "checkForComodification" "()V") ∈ lw_all := lw_g (lw_at lw_m6 31 rfl) rfl
theorem q1364 : (Jvm.Cond.code ({ cls := "java/util/AbstractList$Itr", name := "checkForComodification", desc := "()V" } : Jvm.MethodName) prog_43_method_5_code (1 : Nat) (Option.none : Option Jvm.ClassFile.FieldType)) ∈ lw_all := lw_g (lw_at lw_m6 33 rfl) rfl
theorem q1365 : (Jvm.Cond.methodLink "java/util/AbstractList$Itr" (35 : Nat) ({ cls := "java/util/AbstractList", name := "get", desc := "(I)Ljava/lang/Object;" } : Jvm.MethodName)) ∈ lw_all := lw_g (lw_at lw_m6 34 rfl) rfl
theorem q1370 : (Jvm.Cond.classLink "java/util/AbstractList$Itr" (41 : Nat) "java/util/NoSuchElementException") ∈ lw_all := lw_g (lw_at lw_m6 39 rfl) rfl
theorem q1381 : (Jvm.Cond.methodLink "java/util/AbstractList$Itr" (43 : Nat) ({ cls := "java/util/NoSuchElementException", name := "<init>", desc := "(Ljava/lang/Throwable;)V" } : Jvm.MethodName)) ∈ lw_all := lw_g (lw_at lw_m6 50 rfl) rfl
theorem q1636 : (Jvm.Cond.instanceMethod ({ cls := "java/util/AbstractList$Itr", name := "remove", desc := "()V" } : Jvm.MethodName)) ∈ lw_all := lw_g (lw_at lw_m7 65 rfl) rfl
theorem q1637 : (Jvm.Cond.publicMethod ({ cls := "java/util/AbstractList$Itr", name := "remove", desc := "()V" } : Jvm.MethodName)) ∈ lw_tbl := lw_at lw_m7 66 rfl
theorem q1638 : (Jvm.Cond.codeWith ({ cls := "java/util/AbstractList$Itr", name := "remove", desc := "()V" } : Jvm.MethodName) prog_43_method_4_code (2 : Nat) (Option.none : Option Jvm.ClassFile.FieldType) [((19 : Nat), (68 : Nat), (71 : Nat), (39 : Nat))]) ∈ lw_all := lw_g (lw_at lw_m7 67 rfl) rfl
theorem q1639 : (Jvm.Cond.classLink "java/util/AbstractList$Itr" (46 : Nat) "java/lang/IllegalStateException") ∈ lw_all := lw_g (lw_at lw_m7 68 rfl) rfl
theorem q1648 : (Jvm.Cond.methodLink "java/util/AbstractList$Itr" (48 : Nat) ({ cls := "java/lang/IllegalStateException", name := "<init>", desc := "()V" } : Jvm.MethodName)) ∈ lw_all := lw_g (lw_at lw_m7 77 rfl) rfl
theorem q1654 : (Jvm.Cond.methodLink "java/util/AbstractList$Itr" (49 : Nat) ({ cls := "java/util/AbstractList", name := "remove", desc := "(I)Ljava/lang/Object;" } : Jvm.MethodName)) ∈ lw_all := lw_g (lw_at lw_m7 83 rfl) rfl
theorem q1660 : (Jvm.Cond.classLink "java/util/AbstractList$Itr" (52 : Nat) "java/util/ConcurrentModificationException") ∈ lw_all := lw_g (lw_at lw_m7 89 rfl) rfl
theorem q1662 : (Jvm.Cond.methodLink "java/util/AbstractList$Itr" (54 : Nat) ({ cls := "java/util/ConcurrentModificationException", name := "<init>", desc := "()V" } : Jvm.MethodName)) ∈ lw_all := lw_g (lw_at lw_m7 91 rfl) rfl
theorem q3042 : (Jvm.Cond.fieldLink "java/util/AbstractList$Itr" (1 : Nat) "java/util/AbstractList$Itr" "this$0" "Ljava/util/AbstractList;") ∈ lw_all := lw_g (lw_at lw_m13 31 rfl) rfl
theorem q3043 : (Jvm.Cond.fieldLink "java/util/AbstractList$Itr" (13 : Nat) "java/util/AbstractList$Itr" "cursor" "I") ∈ lw_all := lw_g (lw_at lw_m13 32 rfl) rfl
theorem q3044 : (Jvm.Cond.fieldLink "java/util/AbstractList$Itr" (17 : Nat) "java/util/AbstractList$Itr" "lastRet" "I") ∈ lw_all := lw_g (lw_at lw_m13 33 rfl) rfl
theorem q3045 : (Jvm.Cond.fieldLink "java/util/AbstractList$Itr" (25 : Nat) "java/util/AbstractList$Itr" "expectedModCount" "I") ∈ lw_all := lw_g (lw_at lw_m13 34 rfl) rfl
/-! java/util/ArrayList$ListItr -/
set_option maxRecDepth 100000
def RJ25 : String := "java/util/ArrayList$ListItr"
def TJ25 : u_T := fun k => match k with
  | 0 => ("java/util/ArrayList$Itr", "cursor", "I", false)
  | 1 => ("java/util/ArrayList$Itr", "lastRet", "I", false)
  | 2 => ("java/util/ArrayList$Itr", "expectedModCount", "I", false)
  | 3 => ("java/util/ArrayList$Itr", "this$0", "Ljava/util/ArrayList;", true)
  | _ => ("java/util/ArrayList$ListItr", "this$0", "Ljava/util/ArrayList;", true)
def tyJ25 : Nat → FieldType := fun k => match k with
  | 0 => .int
  | 1 => .int
  | 2 => .int
  | 3 => .object "java/util/ArrayList"
  | _ => .object "java/util/ArrayList"
abbrev wsJ250 : List Cond := u_ws RJ25 TJ25 5
-- two fields of one name: no nmJ25
theorem tyJ25_ok : ∀ k, k < 5 → parseFieldDescriptor (TJ25 k).2.2.1 = some (tyJ25 k) := by decide +kernel
abbrev cJ25_init : ByteArray := prog_49_method_1_code
def yJ25_init : MethodName := ⟨RJ25, "<init>", "(Ljava/util/ArrayList;I)V"⟩
def dkwJ25_init_0 : List UInt8 := [42, 43, 181, 0, 1, 42, 43, 183, 0, 7, 42, 28, 181, 0, 13, 177]
abbrev dktJ25_init_0 : List UInt8 := dkwJ25_init_0 ++ []
theorem dksJ25_init_0 : cJ25_init.data.toList.drop 0 = dktJ25_init_0 := by decide +kernel
theorem dJ25_init_0 : decode cJ25_init 0 = .ok (.aload_n 0, 1) := dk_42 (dk_at dksJ25_init_0 0 rfl rfl)
theorem dJ25_init_1 : decode cJ25_init 1 = .ok (.aload_n 1, 1) := dk_43 (dk_at dksJ25_init_0 1 rfl rfl)
theorem dJ25_init_2 : decode cJ25_init 2 = .ok (.putfield 1, 3) := dk_181 0 1 (dk_at dksJ25_init_0 2 rfl rfl)
theorem dJ25_init_5 : decode cJ25_init 5 = .ok (.aload_n 0, 1) := dk_42 (dk_at dksJ25_init_0 5 rfl rfl)
theorem dJ25_init_6 : decode cJ25_init 6 = .ok (.aload_n 1, 1) := dk_43 (dk_at dksJ25_init_0 6 rfl rfl)
theorem dJ25_init_7 : decode cJ25_init 7 = .ok (.invokespecial 7, 3) := dk_183 0 7 (dk_at dksJ25_init_0 7 rfl rfl)
theorem dJ25_init_10 : decode cJ25_init 10 = .ok (.aload_n 0, 1) := dk_42 (dk_at dksJ25_init_0 10 rfl rfl)
theorem dJ25_init_11 : decode cJ25_init 11 = .ok (.iload_n 2, 1) := dk_28 (dk_at dksJ25_init_0 11 rfl rfl)
theorem dJ25_init_12 : decode cJ25_init 12 = .ok (.putfield 13, 3) := dk_181 0 13 (dk_at dksJ25_init_0 12 rfl rfl)
theorem dJ25_init_15 : decode cJ25_init 15 = .ok (.return_, 1) := dk_177 (dk_at dksJ25_init_0 15 rfl rfl)
theorem q168 : (Jvm.Cond.initialized "java/util/ArrayList$ListItr") ∈ lw_all := lw_g (lw_at lw_m1 37 rfl) rfl
theorem q838 : (Jvm.Cond.selects "java/util/ArrayList$ListItr" ({ cls := "java/lang/Object", name := "getClass", desc := "()Ljava/lang/Class;" } : Jvm.MethodName) ({ cls := "java/lang/Object", name := "getClass", desc := "()Ljava/lang/Class;" } : Jvm.MethodName)) ∈ lw_all := lw_g (lw_at lw_m3 227 rfl) rfl
theorem q1216 : (Jvm.Cond.fieldLink "java/util/ArrayList$ListItr" (13 : Nat) "java/util/ArrayList$ListItr" "cursor" "I") ∈ lw_all := lw_g (lw_at lw_m5 125 rfl) rfl
theorem q1217 : (Jvm.Cond.sameField "java/util/ArrayList$ListItr" "java/util/ArrayList$Itr" "cursor" "I") ∈ lw_all := lw_g (lw_at lw_m5 126 rfl) rfl
theorem q1276 : (Jvm.Cond.instantiable "java/util/ArrayList$ListItr" (5 : Nat)) ∈ lw_all := lw_g (lw_at lw_m5 185 rfl) rfl
theorem q1278 : (Jvm.Cond.instanceMethod ({ cls := "java/util/ArrayList$ListItr", name := "<init>", desc := "(Ljava/util/ArrayList;I)V" } : Jvm.MethodName)) ∈ lw_all := lw_g (lw_at lw_m5 187 rfl) rfl
theorem q1279 : (Jvm.Cond.code ({ cls := "java/util/ArrayList$ListItr", name := "<init>", desc := "(Ljava/util/ArrayList;I)V" } : Jvm.MethodName) prog_49_method_1_code (3 : Nat) (Option.none : Option Jvm.ClassFile.FieldType)) ∈ lw_all := lw_g (lw_at lw_m5 188 rfl) rfl
theorem q1280 : (Jvm.Cond.methodLink "java/util/ArrayList$ListItr" (7 : Nat) ({ cls := "java/util/ArrayList$Itr", name := "<init>", desc := "(Ljava/util/ArrayList;)V" } : Jvm.MethodName)) ∈ lw_all := lw_g (lw_at lw_m5 189 rfl) rfl
theorem q1281 : (Jvm.Cond.fieldLink "java/util/ArrayList$ListItr" (1 : Nat) "java/util/ArrayList$ListItr" "this$0" "Ljava/util/ArrayList;") ∈ lw_all := lw_g (lw_at lw_m5 190 rfl) rfl
theorem q1282 : (Jvm.Cond.laysFinal "java/util/ArrayList$ListItr" "java/util/ArrayList$ListItr" "this$0" "Ljava/util/ArrayList;") ∈ lw_all := lw_g (lw_at lw_m5 191 rfl) rfl
theorem q1283 : (Jvm.Cond.soleField "java/util/ArrayList$ListItr" "this$0") ∈ lw_all := lw_g (lw_at lw_m5 192 rfl) rfl
theorem q1284 : (Jvm.Cond.lays "java/util/ArrayList$ListItr" "java/util/ArrayList$Itr" "cursor" "I") ∈ lw_all := lw_g (lw_at lw_m5 193 rfl) rfl
theorem q1285 : (Jvm.Cond.lays "java/util/ArrayList$ListItr" "java/util/ArrayList$Itr" "lastRet" "I") ∈ lw_all := lw_g (lw_at lw_m5 194 rfl) rfl
theorem q1286 : (Jvm.Cond.lays "java/util/ArrayList$ListItr" "java/util/ArrayList$Itr" "expectedModCount" "I") ∈ lw_all := lw_g (lw_at lw_m5 195 rfl) rfl
theorem q1287 : (Jvm.Cond.laysFinal "java/util/ArrayList$ListItr" "java/util/ArrayList$Itr" "this$0" "Ljava/util/ArrayList;") ∈ lw_all := lw_g (lw_at lw_m5 196 rfl) rfl
theorem q1288 : (Jvm.Cond.superclass "java/util/ArrayList$ListItr" "java/util/ArrayList$Itr") ∈ lw_all := lw_g (lw_at lw_m5 197 rfl) rfl
theorem q1336 : (Jvm.Cond.castable "java/util/ArrayList$ListItr" "java/util/Iterator") ∈ lw_tbl := lw_at lw_m6 5 rfl
theorem q1337 : (Jvm.Cond.selects "java/util/ArrayList$ListItr" ({ cls := "java/util/Iterator", name := "hasNext", desc := "()Z" } : Jvm.MethodName) ({ cls := "java/util/ArrayList$Itr", name := "hasNext", desc := "()Z" } : Jvm.MethodName)) ∈ lw_all := lw_g (lw_at lw_m6 6 rfl) rfl
theorem q1338 : (Jvm.Cond.unhidden "java/util/ArrayList$ListItr" "hasNext" "()Z") ∈ lw_tbl := lw_at lw_m6 7 rfl
theorem q1598 : (Jvm.Cond.selects "java/util/ArrayList$ListItr" ({ cls := "java/util/ArrayList$Itr", name := "checkForComodification", desc := "()V" } : Jvm.MethodName) ({ cls := "java/util/ArrayList$Itr", name := "checkForComodification", desc := "()V" } : Jvm.MethodName)) ∈ lw_all := lw_g (lw_at lw_m7 27 rfl) rfl
theorem q1600 : (Jvm.Cond.selects "java/util/ArrayList$ListItr" ({ cls := "java/util/Iterator", name := "next", desc := "()Ljava/lang/Object;" } : Jvm.MethodName) ({ cls := "java/util/ArrayList$Itr", name := "next", desc := "()Ljava/lang/Object;" } : Jvm.MethodName)) ∈ lw_all := lw_g (lw_at lw_m7 29 rfl) rfl
theorem q1601 : (Jvm.Cond.unhidden "java/util/ArrayList$ListItr" "next" "()Ljava/lang/Object;") ∈ lw_tbl := lw_at lw_m7 30 rfl
theorem q1683 : (Jvm.Cond.selects "java/util/ArrayList$ListItr" ({ cls := "java/util/Iterator", name := "remove", desc := "()V" } : Jvm.MethodName) ({ cls := "java/util/ArrayList$Itr", name := "remove", desc := "()V" } : Jvm.MethodName)) ∈ lw_all := lw_g (lw_at lw_m7 112 rfl) rfl
theorem q1684 : (Jvm.Cond.unhidden "java/util/ArrayList$ListItr" "remove" "()V") ∈ lw_tbl := lw_at lw_m7 113 rfl
theorem q3014 : (Jvm.Cond.castable "java/util/ArrayList$ListItr" "java/lang/Object") ∈ lw_tbl := lw_at lw_m13 3 rfl
theorem in_J25 : ∀ w ∈ wsJ250, w ∈ lw_all := lw_in wsJ250 [1284, 1285, 1286, 1287, 1282] (by decide +kernel) (by decide +kernel)
/-! java/util/LinkedList$ListItr -/
set_option maxRecDepth 100000
def RJ26 : String := "java/util/LinkedList$ListItr"
def TJ26 : u_T := fun k => match k with
  | 0 => ("java/util/LinkedList$ListItr", "lastReturned", "Ljava/util/LinkedList$Node;", false)
  | 1 => ("java/util/LinkedList$ListItr", "next", "Ljava/util/LinkedList$Node;", false)
  | 2 => ("java/util/LinkedList$ListItr", "nextIndex", "I", false)
  | 3 => ("java/util/LinkedList$ListItr", "expectedModCount", "I", false)
  | _ => ("java/util/LinkedList$ListItr", "this$0", "Ljava/util/LinkedList;", true)
def tyJ26 : Nat → FieldType := fun k => match k with
  | 0 => .object "java/util/LinkedList$Node"
  | 1 => .object "java/util/LinkedList$Node"
  | 2 => .int
  | 3 => .int
  | _ => .object "java/util/LinkedList"
abbrev wsJ260 : List Cond := u_ws RJ26 TJ26 5
theorem nmJ26 : ∀ a, a < 5 → ∀ b, b < 5 → a ≠ b → (TJ26 a).2.1 ≠ (TJ26 b).2.1 := by decide +kernel
theorem tyJ26_ok : ∀ k, k < 5 → parseFieldDescriptor (TJ26 k).2.2.1 = some (tyJ26 k) := by decide +kernel
abbrev cJ26_init : ByteArray := prog_63_method_1_code
def yJ26_init : MethodName := ⟨RJ26, "<init>", "(Ljava/util/LinkedList;I)V"⟩
def dkwJ26_init_1 : List UInt8 := [180, 0, 22, 160, 0, 7, 1, 167, 0, 8, 43, 28, 182, 0, 25, 181, 0, 29, 42, 28, 181, 0, 33, 177]
abbrev dktJ26_init_1 : List UInt8 := dkwJ26_init_1 ++ []
def dkwJ26_init_0 : List UInt8 := [42, 43, 181, 0, 1, 42, 183, 0, 7, 42, 42, 180, 0, 1, 180, 0, 13, 181, 0, 19, 42, 28, 43]
abbrev dktJ26_init_0 : List UInt8 := dkwJ26_init_0 ++ dktJ26_init_1
theorem dksJ26_init_0 : cJ26_init.data.toList.drop 0 = dktJ26_init_0 := by decide +kernel
theorem dksJ26_init_1 : cJ26_init.data.toList.drop 23 = dktJ26_init_1 := dk_seg dksJ26_init_0 23 rfl rfl
theorem dJ26_init_0 : decode cJ26_init 0 = .ok (.aload_n 0, 1) := dk_42 (dk_at dksJ26_init_0 0 rfl rfl)
theorem dJ26_init_1 : decode cJ26_init 1 = .ok (.aload_n 1, 1) := dk_43 (dk_at dksJ26_init_0 1 rfl rfl)
theorem dJ26_init_2 : decode cJ26_init 2 = .ok (.putfield 1, 3) := dk_181 0 1 (dk_at dksJ26_init_0 2 rfl rfl)
theorem dJ26_init_5 : decode cJ26_init 5 = .ok (.aload_n 0, 1) := dk_42 (dk_at dksJ26_init_0 5 rfl rfl)
theorem dJ26_init_6 : decode cJ26_init 6 = .ok (.invokespecial 7, 3) := dk_183 0 7 (dk_at dksJ26_init_0 6 rfl rfl)
theorem dJ26_init_9 : decode cJ26_init 9 = .ok (.aload_n 0, 1) := dk_42 (dk_at dksJ26_init_0 9 rfl rfl)
theorem dJ26_init_10 : decode cJ26_init 10 = .ok (.aload_n 0, 1) := dk_42 (dk_at dksJ26_init_0 10 rfl rfl)
theorem dJ26_init_11 : decode cJ26_init 11 = .ok (.getfield 1, 3) := dk_180 0 1 (dk_at dksJ26_init_0 11 rfl rfl)
theorem dJ26_init_14 : decode cJ26_init 14 = .ok (.getfield 13, 3) := dk_180 0 13 (dk_at dksJ26_init_0 14 rfl rfl)
theorem dJ26_init_17 : decode cJ26_init 17 = .ok (.putfield 19, 3) := dk_181 0 19 (dk_at dksJ26_init_0 17 rfl rfl)
theorem dJ26_init_20 : decode cJ26_init 20 = .ok (.aload_n 0, 1) := dk_42 (dk_at dksJ26_init_0 20 rfl rfl)
theorem dJ26_init_21 : decode cJ26_init 21 = .ok (.iload_n 2, 1) := dk_28 (dk_at dksJ26_init_0 21 rfl rfl)
theorem dJ26_init_22 : decode cJ26_init 22 = .ok (.aload_n 1, 1) := dk_43 (dk_at dksJ26_init_0 22 rfl rfl)
theorem dJ26_init_23 : decode cJ26_init 23 = .ok (.getfield 22, 3) := dk_180 0 22 (dk_at dksJ26_init_1 0 rfl rfl)
theorem dJ26_init_26 : decode cJ26_init 26 = .ok (.if_icmp .ne 7, 3) := dk_160 0 7 (dk_at dksJ26_init_1 3 rfl rfl)
theorem dJ26_init_29 : decode cJ26_init 29 = .ok (.aconst_null, 1) := dk_1 (dk_at dksJ26_init_1 6 rfl rfl)
theorem dJ26_init_30 : decode cJ26_init 30 = .ok (.goto 8, 3) := dk_167 0 8 (dk_at dksJ26_init_1 7 rfl rfl)
theorem dJ26_init_33 : decode cJ26_init 33 = .ok (.aload_n 1, 1) := dk_43 (dk_at dksJ26_init_1 10 rfl rfl)
theorem dJ26_init_34 : decode cJ26_init 34 = .ok (.iload_n 2, 1) := dk_28 (dk_at dksJ26_init_1 11 rfl rfl)
theorem dJ26_init_35 : decode cJ26_init 35 = .ok (.invokevirtual 25, 3) := dk_182 0 25 (dk_at dksJ26_init_1 12 rfl rfl)
theorem dJ26_init_38 : decode cJ26_init 38 = .ok (.putfield 29, 3) := dk_181 0 29 (dk_at dksJ26_init_1 15 rfl rfl)
theorem dJ26_init_41 : decode cJ26_init 41 = .ok (.aload_n 0, 1) := dk_42 (dk_at dksJ26_init_1 18 rfl rfl)
theorem dJ26_init_42 : decode cJ26_init 42 = .ok (.iload_n 2, 1) := dk_28 (dk_at dksJ26_init_1 19 rfl rfl)
theorem dJ26_init_43 : decode cJ26_init 43 = .ok (.putfield 33, 3) := dk_181 0 33 (dk_at dksJ26_init_1 20 rfl rfl)
theorem dJ26_init_46 : decode cJ26_init 46 = .ok (.return_, 1) := dk_177 (dk_at dksJ26_init_1 23 rfl rfl)
abbrev cJ26_hasNext : ByteArray := prog_63_method_2_code
def yJ26_hasNext : MethodName := ⟨RJ26, "hasNext", "()Z"⟩
def dkwJ26_hasNext_0 : List UInt8 := [42, 180, 0, 33, 42, 180, 0, 1, 180, 0, 22, 162, 0, 7, 4, 167, 0, 4, 3, 172]
abbrev dktJ26_hasNext_0 : List UInt8 := dkwJ26_hasNext_0 ++ []
theorem dksJ26_hasNext_0 : cJ26_hasNext.data.toList.drop 0 = dktJ26_hasNext_0 := by decide +kernel
theorem dJ26_hasNext_0 : decode cJ26_hasNext 0 = .ok (.aload_n 0, 1) := dk_42 (dk_at dksJ26_hasNext_0 0 rfl rfl)
theorem dJ26_hasNext_1 : decode cJ26_hasNext 1 = .ok (.getfield 33, 3) := dk_180 0 33 (dk_at dksJ26_hasNext_0 1 rfl rfl)
theorem dJ26_hasNext_4 : decode cJ26_hasNext 4 = .ok (.aload_n 0, 1) := dk_42 (dk_at dksJ26_hasNext_0 4 rfl rfl)
theorem dJ26_hasNext_5 : decode cJ26_hasNext 5 = .ok (.getfield 1, 3) := dk_180 0 1 (dk_at dksJ26_hasNext_0 5 rfl rfl)
theorem dJ26_hasNext_8 : decode cJ26_hasNext 8 = .ok (.getfield 22, 3) := dk_180 0 22 (dk_at dksJ26_hasNext_0 8 rfl rfl)
theorem dJ26_hasNext_11 : decode cJ26_hasNext 11 = .ok (.if_icmp .ge 7, 3) := dk_162 0 7 (dk_at dksJ26_hasNext_0 11 rfl rfl)
theorem dJ26_hasNext_14 : decode cJ26_hasNext 14 = .ok (.iconst 1, 1) := dk_4 (dk_at dksJ26_hasNext_0 14 rfl rfl)
theorem dJ26_hasNext_15 : decode cJ26_hasNext 15 = .ok (.goto 4, 3) := dk_167 0 4 (dk_at dksJ26_hasNext_0 15 rfl rfl)
theorem dJ26_hasNext_18 : decode cJ26_hasNext 18 = .ok (.iconst 0, 1) := dk_3 (dk_at dksJ26_hasNext_0 18 rfl rfl)
theorem dJ26_hasNext_19 : decode cJ26_hasNext 19 = .ok (.ireturn, 1) := dk_172 (dk_at dksJ26_hasNext_0 19 rfl rfl)
abbrev cJ26_next : ByteArray := prog_63_method_3_code
def yJ26_next : MethodName := ⟨RJ26, "next", "()Ljava/lang/Object;"⟩
def dkwJ26_next_2 : List UInt8 := [42, 180, 0, 46, 180, 0, 52, 176]
abbrev dktJ26_next_2 : List UInt8 := dkwJ26_next_2 ++ []
def dkwJ26_next_1 : List UInt8 := [181, 0, 46, 42, 42, 180, 0, 29, 180, 0, 49, 181, 0, 29, 42, 89, 180, 0, 33, 4, 96, 181, 0, 33]
abbrev dktJ26_next_1 : List UInt8 := dkwJ26_next_1 ++ dktJ26_next_2
def dkwJ26_next_0 : List UInt8 := [42, 182, 0, 36, 42, 182, 0, 39, 154, 0, 11, 187, 0, 43, 89, 183, 0, 45, 191, 42, 42, 180, 0, 29]
abbrev dktJ26_next_0 : List UInt8 := dkwJ26_next_0 ++ dktJ26_next_1
theorem dksJ26_next_0 : cJ26_next.data.toList.drop 0 = dktJ26_next_0 := by decide +kernel
theorem dksJ26_next_1 : cJ26_next.data.toList.drop 24 = dktJ26_next_1 := dk_seg dksJ26_next_0 24 rfl rfl
theorem dksJ26_next_2 : cJ26_next.data.toList.drop 48 = dktJ26_next_2 := dk_seg dksJ26_next_1 24 rfl rfl
theorem dJ26_next_0 : decode cJ26_next 0 = .ok (.aload_n 0, 1) := dk_42 (dk_at dksJ26_next_0 0 rfl rfl)
theorem dJ26_next_1 : decode cJ26_next 1 = .ok (.invokevirtual 36, 3) := dk_182 0 36 (dk_at dksJ26_next_0 1 rfl rfl)
theorem dJ26_next_4 : decode cJ26_next 4 = .ok (.aload_n 0, 1) := dk_42 (dk_at dksJ26_next_0 4 rfl rfl)
theorem dJ26_next_5 : decode cJ26_next 5 = .ok (.invokevirtual 39, 3) := dk_182 0 39 (dk_at dksJ26_next_0 5 rfl rfl)
theorem dJ26_next_8 : decode cJ26_next 8 = .ok (.ifCond .ne 11, 3) := dk_154 0 11 (dk_at dksJ26_next_0 8 rfl rfl)
theorem dJ26_next_11 : decode cJ26_next 11 = .ok (.new 43, 3) := dk_187 0 43 (dk_at dksJ26_next_0 11 rfl rfl)
theorem dJ26_next_14 : decode cJ26_next 14 = .ok (.dup, 1) := dk_89 (dk_at dksJ26_next_0 14 rfl rfl)
theorem dJ26_next_15 : decode cJ26_next 15 = .ok (.invokespecial 45, 3) := dk_183 0 45 (dk_at dksJ26_next_0 15 rfl rfl)
theorem dJ26_next_18 : decode cJ26_next 18 = .ok (.athrow, 1) := dk_191 (dk_at dksJ26_next_0 18 rfl rfl)
theorem dJ26_next_19 : decode cJ26_next 19 = .ok (.aload_n 0, 1) := dk_42 (dk_at dksJ26_next_0 19 rfl rfl)
theorem dJ26_next_20 : decode cJ26_next 20 = .ok (.aload_n 0, 1) := dk_42 (dk_at dksJ26_next_0 20 rfl rfl)
theorem dJ26_next_21 : decode cJ26_next 21 = .ok (.getfield 29, 3) := dk_180 0 29 (dk_at dksJ26_next_0 21 rfl rfl)
theorem dJ26_next_24 : decode cJ26_next 24 = .ok (.putfield 46, 3) := dk_181 0 46 (dk_at dksJ26_next_1 0 rfl rfl)
theorem dJ26_next_27 : decode cJ26_next 27 = .ok (.aload_n 0, 1) := dk_42 (dk_at dksJ26_next_1 3 rfl rfl)
theorem dJ26_next_28 : decode cJ26_next 28 = .ok (.aload_n 0, 1) := dk_42 (dk_at dksJ26_next_1 4 rfl rfl)
theorem dJ26_next_29 : decode cJ26_next 29 = .ok (.getfield 29, 3) := dk_180 0 29 (dk_at dksJ26_next_1 5 rfl rfl)
theorem dJ26_next_32 : decode cJ26_next 32 = .ok (.getfield 49, 3) := dk_180 0 49 (dk_at dksJ26_next_1 8 rfl rfl)
theorem dJ26_next_35 : decode cJ26_next 35 = .ok (.putfield 29, 3) := dk_181 0 29 (dk_at dksJ26_next_1 11 rfl rfl)
theorem dJ26_next_38 : decode cJ26_next 38 = .ok (.aload_n 0, 1) := dk_42 (dk_at dksJ26_next_1 14 rfl rfl)
theorem dJ26_next_39 : decode cJ26_next 39 = .ok (.dup, 1) := dk_89 (dk_at dksJ26_next_1 15 rfl rfl)
theorem dJ26_next_40 : decode cJ26_next 40 = .ok (.getfield 33, 3) := dk_180 0 33 (dk_at dksJ26_next_1 16 rfl rfl)
theorem dJ26_next_43 : decode cJ26_next 43 = .ok (.iconst 1, 1) := dk_4 (dk_at dksJ26_next_1 19 rfl rfl)
theorem dJ26_next_44 : decode cJ26_next 44 = .ok (.iadd, 1) := dk_96 (dk_at dksJ26_next_1 20 rfl rfl)
theorem dJ26_next_45 : decode cJ26_next 45 = .ok (.putfield 33, 3) := dk_181 0 33 (dk_at dksJ26_next_1 21 rfl rfl)
theorem dJ26_next_48 : decode cJ26_next 48 = .ok (.aload_n 0, 1) := dk_42 (dk_at dksJ26_next_2 0 rfl rfl)
theorem dJ26_next_49 : decode cJ26_next 49 = .ok (.getfield 46, 3) := dk_180 0 46 (dk_at dksJ26_next_2 1 rfl rfl)
theorem dJ26_next_52 : decode cJ26_next 52 = .ok (.getfield 52, 3) := dk_180 0 52 (dk_at dksJ26_next_2 4 rfl rfl)
theorem dJ26_next_55 : decode cJ26_next 55 = .ok (.areturn, 1) := dk_176 (dk_at dksJ26_next_2 7 rfl rfl)
abbrev cJ26_checkForComodification : ByteArray := prog_63_method_12_code
def yJ26_checkForComodification : MethodName := ⟨RJ26, "checkForComodification", "()V"⟩
def dkwJ26_checkForComodification_0 : List UInt8 := [42, 180, 0, 1, 180, 0, 13, 42, 180, 0, 19, 159, 0, 11, 187, 0, 91, 89, 183, 0, 93, 191, 177]
abbrev dktJ26_checkForComodification_0 : List UInt8 := dkwJ26_checkForComodification_0 ++ []
theorem dksJ26_checkForComodification_0 : cJ26_checkForComodification.data.toList.drop 0 = dktJ26_checkForComodification_0 := by decide +kernel
theorem dJ26_checkForComodification_0 : decode cJ26_checkForComodification 0 = .ok (.aload_n 0, 1) := dk_42 (dk_at dksJ26_checkForComodification_0 0 rfl rfl)
theorem dJ26_checkForComodification_1 : decode cJ26_checkForComodification 1 = .ok (.getfield 1, 3) := dk_180 0 1 (dk_at dksJ26_checkForComodification_0 1 rfl rfl)
theorem dJ26_checkForComodification_4 : decode cJ26_checkForComodification 4 = .ok (.getfield 13, 3) := dk_180 0 13 (dk_at dksJ26_checkForComodification_0 4 rfl rfl)
theorem dJ26_checkForComodification_7 : decode cJ26_checkForComodification 7 = .ok (.aload_n 0, 1) := dk_42 (dk_at dksJ26_checkForComodification_0 7 rfl rfl)
theorem dJ26_checkForComodification_8 : decode cJ26_checkForComodification 8 = .ok (.getfield 19, 3) := dk_180 0 19 (dk_at dksJ26_checkForComodification_0 8 rfl rfl)
theorem dJ26_checkForComodification_11 : decode cJ26_checkForComodification 11 = .ok (.if_icmp .eq 11, 3) := dk_159 0 11 (dk_at dksJ26_checkForComodification_0 11 rfl rfl)
theorem dJ26_checkForComodification_14 : decode cJ26_checkForComodification 14 = .ok (.new 91, 3) := dk_187 0 91 (dk_at dksJ26_checkForComodification_0 14 rfl rfl)
theorem dJ26_checkForComodification_17 : decode cJ26_checkForComodification 17 = .ok (.dup, 1) := dk_89 (dk_at dksJ26_checkForComodification_0 17 rfl rfl)
theorem dJ26_checkForComodification_18 : decode cJ26_checkForComodification 18 = .ok (.invokespecial 93, 3) := dk_183 0 93 (dk_at dksJ26_checkForComodification_0 18 rfl rfl)
theorem dJ26_checkForComodification_21 : decode cJ26_checkForComodification 21 = .ok (.athrow, 1) := dk_191 (dk_at dksJ26_checkForComodification_0 21 rfl rfl)
theorem dJ26_checkForComodification_22 : decode cJ26_checkForComodification 22 = .ok (.return_, 1) := dk_177 (dk_at dksJ26_checkForComodification_0 22 rfl rfl)
abbrev cJ26_remove : ByteArray := prog_63_method_8_code
def yJ26_remove : MethodName := ⟨RJ26, "remove", "()V"⟩
def dkwJ26_remove_3 : List UInt8 := [181, 0, 46, 42, 89, 180, 0, 19, 4, 96, 181, 0, 19, 177]
abbrev dktJ26_remove_3 : List UInt8 := dkwJ26_remove_3 ++ []
def dkwJ26_remove_2 : List UInt8 := [166, 0, 11, 42, 43, 181, 0, 29, 167, 0, 13, 42, 89, 180, 0, 33, 4, 100, 181, 0, 33, 42, 1]
abbrev dktJ26_remove_2 : List UInt8 := dkwJ26_remove_2 ++ dktJ26_remove_3
def dkwJ26_remove_1 : List UInt8 := [180, 0, 49, 76, 42, 180, 0, 1, 42, 180, 0, 46, 182, 0, 68, 87, 42, 180, 0, 29, 42, 180, 0, 46]
abbrev dktJ26_remove_1 : List UInt8 := dkwJ26_remove_1 ++ dktJ26_remove_2
def dkwJ26_remove_0 : List UInt8 := [42, 182, 0, 36, 42, 180, 0, 46, 199, 0, 11, 187, 0, 65, 89, 183, 0, 67, 191, 42, 180, 0, 46]
abbrev dktJ26_remove_0 : List UInt8 := dkwJ26_remove_0 ++ dktJ26_remove_1
theorem dksJ26_remove_0 : cJ26_remove.data.toList.drop 0 = dktJ26_remove_0 := by decide +kernel
theorem dksJ26_remove_1 : cJ26_remove.data.toList.drop 23 = dktJ26_remove_1 := dk_seg dksJ26_remove_0 23 rfl rfl
theorem dksJ26_remove_2 : cJ26_remove.data.toList.drop 47 = dktJ26_remove_2 := dk_seg dksJ26_remove_1 24 rfl rfl
theorem dksJ26_remove_3 : cJ26_remove.data.toList.drop 70 = dktJ26_remove_3 := dk_seg dksJ26_remove_2 23 rfl rfl
theorem dJ26_remove_0 : decode cJ26_remove 0 = .ok (.aload_n 0, 1) := dk_42 (dk_at dksJ26_remove_0 0 rfl rfl)
theorem dJ26_remove_1 : decode cJ26_remove 1 = .ok (.invokevirtual 36, 3) := dk_182 0 36 (dk_at dksJ26_remove_0 1 rfl rfl)
theorem dJ26_remove_4 : decode cJ26_remove 4 = .ok (.aload_n 0, 1) := dk_42 (dk_at dksJ26_remove_0 4 rfl rfl)
theorem dJ26_remove_5 : decode cJ26_remove 5 = .ok (.getfield 46, 3) := dk_180 0 46 (dk_at dksJ26_remove_0 5 rfl rfl)
theorem dJ26_remove_8 : decode cJ26_remove 8 = .ok (.ifnonnull 11, 3) := dk_199 0 11 (dk_at dksJ26_remove_0 8 rfl rfl)
theorem dJ26_remove_11 : decode cJ26_remove 11 = .ok (.new 65, 3) := dk_187 0 65 (dk_at dksJ26_remove_0 11 rfl rfl)
theorem dJ26_remove_14 : decode cJ26_remove 14 = .ok (.dup, 1) := dk_89 (dk_at dksJ26_remove_0 14 rfl rfl)
theorem dJ26_remove_15 : decode cJ26_remove 15 = .ok (.invokespecial 67, 3) := dk_183 0 67 (dk_at dksJ26_remove_0 15 rfl rfl)
theorem dJ26_remove_18 : decode cJ26_remove 18 = .ok (.athrow, 1) := dk_191 (dk_at dksJ26_remove_0 18 rfl rfl)
theorem dJ26_remove_19 : decode cJ26_remove 19 = .ok (.aload_n 0, 1) := dk_42 (dk_at dksJ26_remove_0 19 rfl rfl)
theorem dJ26_remove_20 : decode cJ26_remove 20 = .ok (.getfield 46, 3) := dk_180 0 46 (dk_at dksJ26_remove_0 20 rfl rfl)
theorem dJ26_remove_23 : decode cJ26_remove 23 = .ok (.getfield 49, 3) := dk_180 0 49 (dk_at dksJ26_remove_1 0 rfl rfl)
theorem dJ26_remove_26 : decode cJ26_remove 26 = .ok (.astore_n 1, 1) := dk_76 (dk_at dksJ26_remove_1 3 rfl rfl)
theorem dJ26_remove_27 : decode cJ26_remove 27 = .ok (.aload_n 0, 1) := dk_42 (dk_at dksJ26_remove_1 4 rfl rfl)
theorem dJ26_remove_28 : decode cJ26_remove 28 = .ok (.getfield 1, 3) := dk_180 0 1 (dk_at dksJ26_remove_1 5 rfl rfl)
theorem dJ26_remove_31 : decode cJ26_remove 31 = .ok (.aload_n 0, 1) := dk_42 (dk_at dksJ26_remove_1 8 rfl rfl)
theorem dJ26_remove_32 : decode cJ26_remove 32 = .ok (.getfield 46, 3) := dk_180 0 46 (dk_at dksJ26_remove_1 9 rfl rfl)
theorem dJ26_remove_35 : decode cJ26_remove 35 = .ok (.invokevirtual 68, 3) := dk_182 0 68 (dk_at dksJ26_remove_1 12 rfl rfl)
theorem dJ26_remove_38 : decode cJ26_remove 38 = .ok (.pop, 1) := dk_87 (dk_at dksJ26_remove_1 15 rfl rfl)
theorem dJ26_remove_39 : decode cJ26_remove 39 = .ok (.aload_n 0, 1) := dk_42 (dk_at dksJ26_remove_1 16 rfl rfl)
theorem dJ26_remove_40 : decode cJ26_remove 40 = .ok (.getfield 29, 3) := dk_180 0 29 (dk_at dksJ26_remove_1 17 rfl rfl)
theorem dJ26_remove_43 : decode cJ26_remove 43 = .ok (.aload_n 0, 1) := dk_42 (dk_at dksJ26_remove_1 20 rfl rfl)
theorem dJ26_remove_44 : decode cJ26_remove 44 = .ok (.getfield 46, 3) := dk_180 0 46 (dk_at dksJ26_remove_1 21 rfl rfl)
theorem dJ26_remove_47 : decode cJ26_remove 47 = .ok (.if_acmp .ne 11, 3) := dk_166 0 11 (dk_at dksJ26_remove_2 0 rfl rfl)
theorem dJ26_remove_50 : decode cJ26_remove 50 = .ok (.aload_n 0, 1) := dk_42 (dk_at dksJ26_remove_2 3 rfl rfl)
theorem dJ26_remove_51 : decode cJ26_remove 51 = .ok (.aload_n 1, 1) := dk_43 (dk_at dksJ26_remove_2 4 rfl rfl)
theorem dJ26_remove_52 : decode cJ26_remove 52 = .ok (.putfield 29, 3) := dk_181 0 29 (dk_at dksJ26_remove_2 5 rfl rfl)
theorem dJ26_remove_55 : decode cJ26_remove 55 = .ok (.goto 13, 3) := dk_167 0 13 (dk_at dksJ26_remove_2 8 rfl rfl)
theorem dJ26_remove_58 : decode cJ26_remove 58 = .ok (.aload_n 0, 1) := dk_42 (dk_at dksJ26_remove_2 11 rfl rfl)
theorem dJ26_remove_59 : decode cJ26_remove 59 = .ok (.dup, 1) := dk_89 (dk_at dksJ26_remove_2 12 rfl rfl)
theorem dJ26_remove_60 : decode cJ26_remove 60 = .ok (.getfield 33, 3) := dk_180 0 33 (dk_at dksJ26_remove_2 13 rfl rfl)
theorem dJ26_remove_63 : decode cJ26_remove 63 = .ok (.iconst 1, 1) := dk_4 (dk_at dksJ26_remove_2 16 rfl rfl)
theorem dJ26_remove_64 : decode cJ26_remove 64 = .ok (.isub, 1) := dk_100 (dk_at dksJ26_remove_2 17 rfl rfl)
theorem dJ26_remove_65 : decode cJ26_remove 65 = .ok (.putfield 33, 3) := dk_181 0 33 (dk_at dksJ26_remove_2 18 rfl rfl)
theorem dJ26_remove_68 : decode cJ26_remove 68 = .ok (.aload_n 0, 1) := dk_42 (dk_at dksJ26_remove_2 21 rfl rfl)
theorem dJ26_remove_69 : decode cJ26_remove 69 = .ok (.aconst_null, 1) := dk_1 (dk_at dksJ26_remove_2 22 rfl rfl)
theorem dJ26_remove_70 : decode cJ26_remove 70 = .ok (.putfield 46, 3) := dk_181 0 46 (dk_at dksJ26_remove_3 0 rfl rfl)
theorem dJ26_remove_73 : decode cJ26_remove 73 = .ok (.aload_n 0, 1) := dk_42 (dk_at dksJ26_remove_3 3 rfl rfl)
theorem dJ26_remove_74 : decode cJ26_remove 74 = .ok (.dup, 1) := dk_89 (dk_at dksJ26_remove_3 4 rfl rfl)
theorem dJ26_remove_75 : decode cJ26_remove 75 = .ok (.getfield 19, 3) := dk_180 0 19 (dk_at dksJ26_remove_3 5 rfl rfl)
theorem dJ26_remove_78 : decode cJ26_remove 78 = .ok (.iconst 1, 1) := dk_4 (dk_at dksJ26_remove_3 8 rfl rfl)
theorem dJ26_remove_79 : decode cJ26_remove 79 = .ok (.iadd, 1) := dk_96 (dk_at dksJ26_remove_3 9 rfl rfl)
theorem dJ26_remove_80 : decode cJ26_remove 80 = .ok (.putfield 19, 3) := dk_181 0 19 (dk_at dksJ26_remove_3 10 rfl rfl)
theorem dJ26_remove_83 : decode cJ26_remove 83 = .ok (.return_, 1) := dk_177 (dk_at dksJ26_remove_3 13 rfl rfl)
theorem q169 : (Jvm.Cond.initialized "java/util/LinkedList$ListItr") ∈ lw_all := lw_g (lw_at lw_m1 38 rfl) rfl
theorem q217 : (Jvm.Cond.fieldLink "java/util/LinkedList$ListItr" (13 : Nat) "java/util/LinkedList" "modCount" "I") ∈ lw_all := lw_g (lw_at lw_m1 86 rfl) rfl
theorem q310 : (Jvm.Cond.fieldLink "java/util/LinkedList$ListItr" (22 : Nat) "java/util/LinkedList" "size" "I") ∈ lw_all := lw_g (lw_at lw_m1 179 rfl) rfl
theorem q844 : (Jvm.Cond.selects "java/util/LinkedList$ListItr" ({ cls := "java/lang/Object", name := "getClass", desc := "()Ljava/lang/Class;" } : Jvm.MethodName) ({ cls := "java/lang/Object", name := "getClass", desc := "()Ljava/lang/Class;" } : Jvm.MethodName)) ∈ lw_all := lw_g (lw_at lw_m3 233 rfl) rfl
theorem q876 : (Jvm.Cond.fieldLink "java/util/LinkedList$ListItr" (52 : Nat) "java/util/LinkedList$Node" "item" "Ljava/lang/Object;") ∈ lw_all := lw_g (lw_at lw_m4 25 rfl) rfl
theorem q879 : (Jvm.Cond.fieldLink "java/util/LinkedList$ListItr" (49 : Nat) "java/util/LinkedList$Node" "next" "Ljava/util/LinkedList$Node;") ∈ lw_all := lw_g (lw_at lw_m4 28 rfl) rfl
theorem q1293 : (Jvm.Cond.instantiable "java/util/LinkedList$ListItr" (5 : Nat)) ∈ lw_all := lw_g (lw_at lw_m5 202 rfl) rfl
theorem q1295 : (Jvm.Cond.instanceMethod ({ cls := "java/util/LinkedList$ListItr", name := "<init>", desc := "(Ljava/util/LinkedList;I)V" } : Jvm.MethodName)) ∈ lw_all := lw_g (lw_at lw_m5 204 rfl) rfl
theorem q1296 : (Jvm.Cond.code ({ cls := "java/util/LinkedList$ListItr", name := "<init>", desc := "(Ljava/util/LinkedList;I)V" } : Jvm.MethodName) prog_63_method_1_code (3 : Nat) (Option.none : Option Jvm.ClassFile.FieldType)) ∈ lw_all := lw_g (lw_at lw_m5 205 rfl) rfl
theorem q1297 : (Jvm.Cond.methodLink "java/util/LinkedList$ListItr" (7 : Nat) ({ cls := "java/lang/Object", name := "<init>", desc := "()V" } : Jvm.MethodName)) ∈ lw_all := lw_g (lw_at lw_m5 206 rfl) rfl
theorem q1298 : (Jvm.Cond.methodLink "java/util/LinkedList$ListItr" (25 : Nat) ({ cls := "java/util/LinkedList", name := "node", desc := "(I)Ljava/util/LinkedList$Node;" } : Jvm.MethodName)) ∈ lw_all := lw_g (lw_at lw_m5 207 rfl) rfl
theorem q1299 : (Jvm.Cond.fieldLink "java/util/LinkedList$ListItr" (46 : Nat) "java/util/LinkedList$ListItr" "lastReturned" "Ljava/util/LinkedList$Node;") ∈ lw_all := lw_g (lw_at lw_m5 208 rfl) rfl
theorem q1300 : (Jvm.Cond.fieldLink "java/util/LinkedList$ListItr" (29 : Nat) "java/util/LinkedList$ListItr" "next" "Ljava/util/LinkedList$Node;") ∈ lw_all := lw_g (lw_at lw_m5 209 rfl) rfl
theorem q1301 : (Jvm.Cond.fieldLink "java/util/LinkedList$ListItr" (33 : Nat) "java/util/LinkedList$ListItr" "nextIndex" "I") ∈ lw_all := lw_g (lw_at lw_m5 210 rfl) rfl
theorem q1302 : (Jvm.Cond.fieldLink "java/util/LinkedList$ListItr" (19 : Nat) "java/util/LinkedList$ListItr" "expectedModCount" "I") ∈ lw_all := lw_g (lw_at lw_m5 211 rfl) rfl
theorem q1303 : (Jvm.Cond.fieldLink "java/util/LinkedList$ListItr" (1 : Nat) "java/util/LinkedList$ListItr" "this$0" "Ljava/util/LinkedList;") ∈ lw_all := lw_g (lw_at lw_m5 212 rfl) rfl
theorem q1304 : (Jvm.Cond.lays "java/util/LinkedList$ListItr" "java/util/LinkedList$ListItr" "lastReturned" "Ljava/util/LinkedList$Node;") ∈ lw_all := lw_g (lw_at lw_m5 213 rfl) rfl
theorem q1305 : (Jvm.Cond.soleField "java/util/LinkedList$ListItr" "lastReturned") ∈ lw_all := lw_g (lw_at lw_m5 214 rfl) rfl
theorem q1306 : (Jvm.Cond.lays "java/util/LinkedList$ListItr" "java/util/LinkedList$ListItr" "next" "Ljava/util/LinkedList$Node;") ∈ lw_all := lw_g (lw_at lw_m5 215 rfl) rfl
theorem q1307 : (Jvm.Cond.soleField "java/util/LinkedList$ListItr" "next") ∈ lw_all := lw_g (lw_at lw_m5 216 rfl) rfl
theorem q1308 : (Jvm.Cond.lays "java/util/LinkedList$ListItr" "java/util/LinkedList$ListItr" "nextIndex" "I") ∈ lw_all := lw_g (lw_at lw_m5 217 rfl) rfl
theorem q1309 : (Jvm.Cond.soleField "java/util/LinkedList$ListItr" "nextIndex") ∈ lw_all := lw_g (lw_at lw_m5 218 rfl) rfl
theorem q1310 : (Jvm.Cond.lays "java/util/LinkedList$ListItr" "java/util/LinkedList$ListItr" "expectedModCount" "I") ∈ lw_all := lw_g (lw_at lw_m5 219 rfl) rfl
theorem q1311 : (Jvm.Cond.soleField "java/util/LinkedList$ListItr" "expectedModCount") ∈ lw_all := lw_g (lw_at lw_m5 220 rfl) rfl
theorem q1312 : (Jvm.Cond.laysFinal "java/util/LinkedList$ListItr" "java/util/LinkedList$ListItr" "this$0" "Ljava/util/LinkedList;") ∈ lw_all := lw_g (lw_at lw_m5 221 rfl) rfl
theorem q1313 : (Jvm.Cond.soleField "java/util/LinkedList$ListItr" "this$0") ∈ lw_all := lw_g (lw_at lw_m5 222 rfl) rfl
theorem q1314 : (Jvm.Cond.superclass "java/util/LinkedList$ListItr" "java/lang/Object") ∈ lw_all := lw_g (lw_at lw_m5 223 rfl) rfl
theorem q1345 : (Jvm.Cond.castable "java/util/LinkedList$ListItr" "java/util/Iterator") ∈ lw_tbl := lw_at lw_m6 14 rfl
theorem q1346 : (Jvm.Cond.selects "java/util/LinkedList$ListItr" ({ cls := "java/util/Iterator", name := "hasNext", desc := "()Z" } : Jvm.MethodName) ({ cls := "java/util/LinkedList$ListItr", name := "hasNext", desc := "()Z" } : Jvm.MethodName)) ∈ lw_all := lw_g (lw_at lw_m6 15 rfl) rfl
theorem q1347 : (Jvm.Cond.unhidden "java/util/LinkedList$ListItr" "hasNext" "()Z") ∈ lw_tbl := lw_at lw_m6 16 rfl
theorem q1348 : (Jvm.Cond.instanceMethod ({ cls := "java/util/LinkedList$ListItr", name := "hasNext", desc := "()Z" } : Jvm.MethodName)) ∈ lw_all := lw_g (lw_at lw_m6 17 rfl) rfl
theorem q1349 : (Jvm.Cond.publicMethod ({ cls := "java/util/LinkedList$ListItr", name := "hasNext", desc := "()Z" } : Jvm.MethodName)) ∈ lw_tbl := lw_at lw_m6 18 rfl
theorem q1350 : (Jvm.Cond.code ({ cls := "java/util/LinkedList$ListItr", name := "hasNext", desc := "()Z" } : Jvm.MethodName) prog_63_method_2_code (1 : Nat) (Option.some Jvm.ClassFile.FieldType.boolean)) ∈ lw_all := lw_g (lw_at lw_m6 19 rfl) rfl
theorem q1620 : (Jvm.Cond.selects "java/util/LinkedList$ListItr" ({ cls := "java/util/Iterator", name := "next", desc := "()Ljava/lang/Object;" } : Jvm.MethodName) ({ cls := "java/util/LinkedList$ListItr", name := "next", desc := "()Ljava/lang/Object;" } : Jvm.MethodName)) ∈ lw_all := lw_g (lw_at lw_m7 49 rfl) rfl
theorem q1621 : (Jvm.Cond.unhidden "java/util/LinkedList$ListItr" "next" "()Ljava/lang/Object;") ∈ lw_tbl := lw_at lw_m7 50 rfl
theorem q1622 : (Jvm.Cond.instanceMethod ({ cls := "java/util/LinkedList$ListItr", name := "next", desc := "()Ljava/lang/Object;" } : Jvm.MethodName)) ∈ lw_all := lw_g (lw_at lw_m7 51 rfl) rfl
theorem q1623 : (Jvm.Cond.publicMethod ({ cls := "java/util/LinkedList$ListItr", name := "next", desc := "()Ljava/lang/Object;" } : Jvm.MethodName)) ∈ lw_tbl := lw_at lw_m7 52 rfl
theorem q1624 : (Jvm.Cond.code ({ cls := "java/util/LinkedList$ListItr", name := "next", desc := "()Ljava/lang/Object;" } : Jvm.MethodName) prog_63_method_3_code (1 : Nat) (Option.some (Jvm.ClassFile.FieldType.object "java/lang/Object"))) ∈ lw_all := lw_g (lw_at lw_m7 53 rfl) rfl
theorem q1625 : (Jvm.Cond.methodLink "java/util/LinkedList$ListItr" (36 : Nat) ({ cls := "java/util/LinkedList$ListItr", name := "checkForComodification", desc := "()V" } : Jvm.MethodName)) ∈ lw_all := lw_g (lw_at lw_m7 54 rfl) rfl
theorem q1626 : (Jvm.Cond.instanceMethod ({ cls := "java/util/LinkedList$ListItr", name := "checkForComodification", desc := "()V" } : Jvm.MethodName)) ∈ lw_all := lw_g (lw_at lw_m7 55 rfl) rfl
theorem q1627 : (Jvm.Cond.selects "java/util/LinkedList$ListItr" ({ cls := "java/util/LinkedList$ListItr", name := "checkForComodification", desc := "()V" } : Jvm.MethodName) ({ cls := "java/util/LinkedList$ListItr", name := "checkForComodification", desc := "()V" } : Jvm.MethodName)) ∈ lw_all := lw_g (lw_at lw_m7 56 rfl) rfl
theorem q1628 : (Jvm.Cond.code ({ cls := "java/util/LinkedList$ListItr", name := "checkForComodification", desc := "()V" } : Jvm.MethodName) prog_63_method_12_code (1 : Nat) (Option.none : Option Jvm.ClassFile.FieldType)) ∈ lw_all := lw_g (lw_at lw_m7 57 rfl) rfl
theorem q1629 : (Jvm.Cond.methodLink "java/util/LinkedList$ListItr" (39 : Nat) ({ cls := "java/util/LinkedList$ListItr", name := "hasNext", desc := "()Z" } : Jvm.MethodName)) ∈ lw_all := lw_g (lw_at lw_m7 58 rfl) rfl
theorem q1690 : (Jvm.Cond.selects "java/util/LinkedList$ListItr" ({ cls := "java/util/Iterator", name := "remove", desc := "()V" } : Jvm.MethodName) ({ cls := "java/util/LinkedList$ListItr", name := "remove", desc := "()V" } : Jvm.MethodName)) ∈ lw_all := lw_g (lw_at lw_m7 119 rfl) rfl
theorem q1691 : (Jvm.Cond.unhidden "java/util/LinkedList$ListItr" "remove" "()V") ∈ lw_tbl := lw_at lw_m7 120 rfl
theorem q1692 : (Jvm.Cond.instanceMethod ({ cls := "java/util/LinkedList$ListItr", name := "remove", desc := "()V" } : Jvm.MethodName)) ∈ lw_all := lw_g (lw_at lw_m7 121 rfl) rfl
theorem q1693 : (Jvm.Cond.publicMethod ({ cls := "java/util/LinkedList$ListItr", name := "remove", desc := "()V" } : Jvm.MethodName)) ∈ lw_tbl := lw_at lw_m7 122 rfl
theorem q1694 : (Jvm.Cond.code ({ cls := "java/util/LinkedList$ListItr", name := "remove", desc := "()V" } : Jvm.MethodName) prog_63_method_8_code (2 : Nat) (Option.none : Option Jvm.ClassFile.FieldType)) ∈ lw_all := lw_g (lw_at lw_m7 123 rfl) rfl
theorem q1695 : (Jvm.Cond.methodLink "java/util/LinkedList$ListItr" (68 : Nat) ({ cls := "java/util/LinkedList", name := "unlink", desc := "(Ljava/util/LinkedList$Node;)Ljava/lang/Object;" } : Jvm.MethodName)) ∈ lw_all := lw_g (lw_at lw_m7 124 rfl) rfl
theorem q2985 : (Jvm.Cond.selects "java/util/LinkedList$ListItr" ({ cls := "java/util/LinkedList$ListItr", name := "hasNext", desc := "()Z" } : Jvm.MethodName) ({ cls := "java/util/LinkedList$ListItr", name := "hasNext", desc := "()Z" } : Jvm.MethodName)) ∈ lw_all := lw_g (lw_at lw_m12 214 rfl) rfl
theorem q3015 : (Jvm.Cond.castable "java/util/LinkedList$ListItr" "java/lang/Object") ∈ lw_tbl := lw_at lw_m13 4 rfl
theorem in_J26 : ∀ w ∈ wsJ260, w ∈ lw_all := lw_in wsJ260 [1304, 1306, 1308, 1310, 1312] (by decide +kernel) (by decide +kernel)
/-! java/lang/RuntimeException -/
set_option maxRecDepth 100000
def RJ27 : String := "java/lang/RuntimeException"
abbrev cJ27_init : ByteArray := prog_32_method_4_code
def yJ27_init : MethodName := ⟨RJ27, "<init>", "(Ljava/lang/Throwable;)V"⟩
def dkwJ27_init_0 : List UInt8 := [42, 43, 183, 0, 13, 177]
abbrev dktJ27_init_0 : List UInt8 := dkwJ27_init_0 ++ []
theorem dksJ27_init_0 : cJ27_init.data.toList.drop 0 = dktJ27_init_0 := by decide +kernel
theorem dJ27_init_0 : decode cJ27_init 0 = .ok (.aload_n 0, 1) := dk_42 (dk_at dksJ27_init_0 0 rfl rfl)
theorem dJ27_init_1 : decode cJ27_init 1 = .ok (.aload_n 1, 1) := dk_43 (dk_at dksJ27_init_0 1 rfl rfl)
theorem dJ27_init_2 : decode cJ27_init 2 = .ok (.invokespecial 13, 3) := dk_183 0 13 (dk_at dksJ27_init_0 2 rfl rfl)
theorem dJ27_init_5 : decode cJ27_init 5 = .ok (.return_, 1) := dk_177 (dk_at dksJ27_init_0 5 rfl rfl)
abbrev cJ27_init_2 : ByteArray := prog_32_method_1_code
def yJ27_init_2 : MethodName := ⟨RJ27, "<init>", "()V"⟩
theorem dJ27_init_2_0 : decode cJ27_init_2 0 = .ok (.aload_n 0, 1) := by decide +kernel
theorem dJ27_init_2_1 : decode cJ27_init_2 1 = .ok (.invokespecial 1, 3) := by decide +kernel
theorem dJ27_init_2_4 : decode cJ27_init_2 4 = .ok (.return_, 1) := by decide +kernel
theorem q170 : (Jvm.Cond.initialized "java/lang/RuntimeException") ∈ lw_all := lw_g (lw_at lw_m1 39 rfl) rfl
theorem q1373 : (Jvm.Cond.declares ({ cls := "java/lang/RuntimeException", name := "<init>", desc := "()V" } : Jvm.MethodName)) ∈ lw_tbl := lw_at lw_m6 42 rfl
theorem q1374 : (Jvm.Cond.declares ({ cls := "java/lang/RuntimeException", name := "<init>", desc := "(Ljava/lang/String;)V" } : Jvm.MethodName)) ∈ lw_tbl := lw_at lw_m6 43 rfl
theorem q1385 : (Jvm.Cond.instanceMethod ({ cls := "java/lang/RuntimeException", name := "<init>", desc := "(Ljava/lang/Throwable;)V" } : Jvm.MethodName)) ∈ lw_all := lw_g (lw_at lw_m6 54 rfl) rfl
theorem q1386 : (Jvm.Cond.code ({ cls := "java/lang/RuntimeException", name := "<init>", desc := "(Ljava/lang/Throwable;)V" } : Jvm.MethodName) prog_32_method_4_code (2 : Nat) (Option.none : Option Jvm.ClassFile.FieldType)) ∈ lw_all := lw_g (lw_at lw_m6 55 rfl) rfl
theorem q1387 : (Jvm.Cond.methodLink "java/lang/RuntimeException" (13 : Nat) ({ cls := "java/lang/Exception", name := "<init>", desc := "(Ljava/lang/Throwable;)V" } : Jvm.MethodName)) ∈ lw_all := lw_g (lw_at lw_m6 56 rfl) rfl
theorem q1614 : (Jvm.Cond.instanceMethod ({ cls := "java/lang/RuntimeException", name := "<init>", desc := "()V" } : Jvm.MethodName)) ∈ lw_all := lw_g (lw_at lw_m7 43 rfl) rfl
theorem q1615 : (Jvm.Cond.code ({ cls := "java/lang/RuntimeException", name := "<init>", desc := "()V" } : Jvm.MethodName) prog_32_method_1_code (1 : Nat) (Option.none : Option Jvm.ClassFile.FieldType)) ∈ lw_all := lw_g (lw_at lw_m7 44 rfl) rfl
theorem q1616 : (Jvm.Cond.methodLink "java/lang/RuntimeException" (1 : Nat) ({ cls := "java/lang/Exception", name := "<init>", desc := "()V" } : Jvm.MethodName)) ∈ lw_all := lw_g (lw_at lw_m7 45 rfl) rfl
/-! java/util/NoSuchElementException -/
set_option maxRecDepth 100000
def RJ28 : String := "java/util/NoSuchElementException"
def TJ28 : u_T := fun k => match k with
  | 0 => ("java/lang/Throwable", "cause", "Ljava/lang/Throwable;", false)
  | 1 => ("java/lang/Throwable", "stackTrace", "[Ljava/lang/StackTraceElement;", false)
  | 2 => ("java/lang/Throwable", "suppressedExceptions", "Ljava/util/List;", false)
  | 3 => ("java/lang/Throwable", "detailMessage", "Ljava/lang/String;", false)
  | 4 => ("java/lang/Throwable", "backtrace", "Ljava/lang/Object;", false)
  | _ => ("java/lang/Throwable", "depth", "I", false)
def tyJ28 : Nat → FieldType := fun k => match k with
  | 0 => .object "java/lang/Throwable"
  | 1 => .array (.object "java/lang/StackTraceElement")
  | 2 => .object "java/util/List"
  | 3 => .object "java/lang/String"
  | 4 => .object "java/lang/Object"
  | _ => .int
abbrev wsJ280 : List Cond := u_ws RJ28 TJ28 6
theorem nmJ28 : ∀ a, a < 6 → ∀ b, b < 6 → a ≠ b → (TJ28 a).2.1 ≠ (TJ28 b).2.1 := by decide +kernel
theorem tyJ28_ok : ∀ k, k < 6 → parseFieldDescriptor (TJ28 k).2.2.1 = some (tyJ28 k) := by decide +kernel
abbrev cJ28_init : ByteArray := prog_67_method_3_code
def yJ28_init : MethodName := ⟨RJ28, "<init>", "(Ljava/lang/Throwable;)V"⟩
def dkwJ28_init_0 : List UInt8 := [42, 43, 183, 0, 10, 177]
abbrev dktJ28_init_0 : List UInt8 := dkwJ28_init_0 ++ []
theorem dksJ28_init_0 : cJ28_init.data.toList.drop 0 = dktJ28_init_0 := by decide +kernel
theorem dJ28_init_0 : decode cJ28_init 0 = .ok (.aload_n 0, 1) := dk_42 (dk_at dksJ28_init_0 0 rfl rfl)
theorem dJ28_init_1 : decode cJ28_init 1 = .ok (.aload_n 1, 1) := dk_43 (dk_at dksJ28_init_0 1 rfl rfl)
theorem dJ28_init_2 : decode cJ28_init 2 = .ok (.invokespecial 10, 3) := dk_183 0 10 (dk_at dksJ28_init_0 2 rfl rfl)
theorem dJ28_init_5 : decode cJ28_init 5 = .ok (.return_, 1) := dk_177 (dk_at dksJ28_init_0 5 rfl rfl)
abbrev cJ28_init_2 : ByteArray := prog_67_method_1_code
def yJ28_init_2 : MethodName := ⟨RJ28, "<init>", "()V"⟩
theorem dJ28_init_2_0 : decode cJ28_init_2 0 = .ok (.aload_n 0, 1) := by decide +kernel
theorem dJ28_init_2_1 : decode cJ28_init_2 1 = .ok (.invokespecial 1, 3) := by decide +kernel
theorem dJ28_init_2_4 : decode cJ28_init_2 4 = .ok (.return_, 1) := by decide +kernel
theorem q171 : (Jvm.Cond.initialized "java/util/NoSuchElementException") ∈ lw_all := lw_g (lw_at lw_m1 40 rfl) rfl
theorem q517 : (Jvm.Cond.selects "java/util/NoSuchElementException" ({ cls := "java/lang/Throwable", name := "fillInStackTrace", desc := "()Ljava/lang/Throwable;" } : Jvm.MethodName) ({ cls := "java/lang/Throwable", name := "fillInStackTrace", desc := "()Ljava/lang/Throwable;" } : Jvm.MethodName)) ∈ lw_all := lw_g (lw_at lw_m2 146 rfl) rfl
theorem q846 : (Jvm.Cond.selects "java/util/NoSuchElementException" ({ cls := "java/lang/Object", name := "getClass", desc := "()Ljava/lang/Class;" } : Jvm.MethodName) ({ cls := "java/lang/Object", name := "getClass", desc := "()Ljava/lang/Class;" } : Jvm.MethodName)) ∈ lw_all := lw_g (lw_at lw_m3 235 rfl) rfl
theorem q1371 : (Jvm.Cond.instantiable "java/util/NoSuchElementException" (6 : Nat)) ∈ lw_all := lw_g (lw_at lw_m6 40 rfl) rfl
theorem q1372 : (Jvm.Cond.castable "java/util/NoSuchElementException" "java/util/NoSuchElementException") ∈ lw_tbl := lw_at lw_m6 41 rfl
theorem q1375 : (Jvm.Cond.selects "java/util/NoSuchElementException" ({ cls := "java/lang/Throwable", name := "fillInStackTrace", desc := "(I)Ljava/lang/Throwable;" } : Jvm.MethodName) ({ cls := "java/lang/Throwable", name := "fillInStackTrace", desc := "(I)Ljava/lang/Throwable;" } : Jvm.MethodName)) ∈ lw_all := lw_g (lw_at lw_m6 44 rfl) rfl
theorem q1376 : (Jvm.Cond.lays "java/util/NoSuchElementException" "java/lang/Throwable" "cause" "Ljava/lang/Throwable;") ∈ lw_all := lw_g (lw_at lw_m6 45 rfl) rfl
theorem q1377 : (Jvm.Cond.lays "java/util/NoSuchElementException" "java/lang/Throwable" "stackTrace" "[Ljava/lang/StackTraceElement;") ∈ lw_all := lw_g (lw_at lw_m6 46 rfl) rfl
theorem q1378 : (Jvm.Cond.lays "java/util/NoSuchElementException" "java/lang/Throwable" "suppressedExceptions" "Ljava/util/List;") ∈ lw_all := lw_g (lw_at lw_m6 47 rfl) rfl
theorem q1379 : (Jvm.Cond.lays "java/util/NoSuchElementException" "java/lang/Throwable" "detailMessage" "Ljava/lang/String;") ∈ lw_all := lw_g (lw_at lw_m6 48 rfl) rfl
theorem q1380 : (Jvm.Cond.lays "java/util/NoSuchElementException" "java/lang/Throwable" "backtrace" "Ljava/lang/Object;") ∈ lw_all := lw_g (lw_at lw_m6 49 rfl) rfl
theorem q1382 : (Jvm.Cond.instanceMethod ({ cls := "java/util/NoSuchElementException", name := "<init>", desc := "(Ljava/lang/Throwable;)V" } : Jvm.MethodName)) ∈ lw_all := lw_g (lw_at lw_m6 51 rfl) rfl
theorem q1383 : (Jvm.Cond.code ({ cls := "java/util/NoSuchElementException", name := "<init>", desc := "(Ljava/lang/Throwable;)V" } : Jvm.MethodName) prog_67_method_3_code (2 : Nat) (Option.none : Option Jvm.ClassFile.FieldType)) ∈ lw_all := lw_g (lw_at lw_m6 52 rfl) rfl
theorem q1384 : (Jvm.Cond.methodLink "java/util/NoSuchElementException" (10 : Nat) ({ cls := "java/lang/RuntimeException", name := "<init>", desc := "(Ljava/lang/Throwable;)V" } : Jvm.MethodName)) ∈ lw_all := lw_g (lw_at lw_m6 53 rfl) rfl
theorem q1400 : (Jvm.Cond.selects "java/util/NoSuchElementException" ({ cls := "java/lang/Throwable", name := "toString", desc := "()Ljava/lang/String;" } : Jvm.MethodName) ({ cls := "java/lang/Throwable", name := "toString", desc := "()Ljava/lang/String;" } : Jvm.MethodName)) ∈ lw_all := lw_g (lw_at lw_m6 69 rfl) rfl
theorem q1410 : (Jvm.Cond.selects "java/util/NoSuchElementException" ({ cls := "java/lang/Throwable", name := "getLocalizedMessage", desc := "()Ljava/lang/String;" } : Jvm.MethodName) ({ cls := "java/lang/Throwable", name := "getLocalizedMessage", desc := "()Ljava/lang/String;" } : Jvm.MethodName)) ∈ lw_all := lw_g (lw_at lw_m6 79 rfl) rfl
theorem q1419 : (Jvm.Cond.selects "java/util/NoSuchElementException" ({ cls := "java/lang/Throwable", name := "getMessage", desc := "()Ljava/lang/String;" } : Jvm.MethodName) ({ cls := "java/lang/Throwable", name := "getMessage", desc := "()Ljava/lang/String;" } : Jvm.MethodName)) ∈ lw_all := lw_g (lw_at lw_m6 88 rfl) rfl
theorem q1587 : (Jvm.Cond.lays "java/util/NoSuchElementException" "java/lang/Throwable" "depth" "I") ∈ lw_all := lw_g (lw_at lw_m7 16 rfl) rfl
theorem q1588 : (Jvm.Cond.superclass "java/util/NoSuchElementException" "java/lang/RuntimeException") ∈ lw_all := lw_g (lw_at lw_m7 17 rfl) rfl
theorem q1611 : (Jvm.Cond.instanceMethod ({ cls := "java/util/NoSuchElementException", name := "<init>", desc := "()V" } : Jvm.MethodName)) ∈ lw_all := lw_g (lw_at lw_m7 40 rfl) rfl
theorem q1612 : (Jvm.Cond.code ({ cls := "java/util/NoSuchElementException", name := "<init>", desc := "()V" } : Jvm.MethodName) prog_67_method_1_code (1 : Nat) (Option.none : Option Jvm.ClassFile.FieldType)) ∈ lw_all := lw_g (lw_at lw_m7 41 rfl) rfl
theorem q1613 : (Jvm.Cond.methodLink "java/util/NoSuchElementException" (1 : Nat) ({ cls := "java/lang/RuntimeException", name := "<init>", desc := "()V" } : Jvm.MethodName)) ∈ lw_all := lw_g (lw_at lw_m7 42 rfl) rfl
theorem q3016 : (Jvm.Cond.castable "java/util/NoSuchElementException" "java/lang/Object") ∈ lw_tbl := lw_at lw_m13 5 rfl
theorem in_J28 : ∀ w ∈ wsJ280, w ∈ lw_all := lw_in wsJ280 [1376, 1377, 1378, 1379, 1380, 1587] (by decide +kernel) (by decide +kernel)
/-! java/lang/StringLatin1 -/
set_option maxRecDepth 100000
def RJ29 : String := "java/lang/StringLatin1"
abbrev cJ29_inflate : ByteArray := prog_35_method_50_code
def yJ29_inflate : MethodName := ⟨RJ29, "inflate", "([BI[BII)V"⟩
def dkwJ29_inflate_0 : List UInt8 := [42, 27, 44, 29, 21, 4, 184, 0, 240, 177]
abbrev dktJ29_inflate_0 : List UInt8 := dkwJ29_inflate_0 ++ []
theorem dksJ29_inflate_0 : cJ29_inflate.data.toList.drop 0 = dktJ29_inflate_0 := by decide +kernel
theorem dJ29_inflate_0 : decode cJ29_inflate 0 = .ok (.aload_n 0, 1) := dk_42 (dk_at dksJ29_inflate_0 0 rfl rfl)
theorem dJ29_inflate_1 : decode cJ29_inflate 1 = .ok (.iload_n 1, 1) := dk_27 (dk_at dksJ29_inflate_0 1 rfl rfl)
theorem dJ29_inflate_2 : decode cJ29_inflate 2 = .ok (.aload_n 2, 1) := dk_44 (dk_at dksJ29_inflate_0 2 rfl rfl)
theorem dJ29_inflate_3 : decode cJ29_inflate 3 = .ok (.iload_n 3, 1) := dk_29 (dk_at dksJ29_inflate_0 3 rfl rfl)
theorem dJ29_inflate_4 : decode cJ29_inflate 4 = .ok (.iload 4, 2) := dk_21 4 (dk_at dksJ29_inflate_0 4 rfl rfl)
theorem dJ29_inflate_6 : decode cJ29_inflate 6 = .ok (.invokestatic 240, 3) := dk_184 0 240 (dk_at dksJ29_inflate_0 6 rfl rfl)
theorem dJ29_inflate_9 : decode cJ29_inflate 9 = .ok (.return_, 1) := dk_177 (dk_at dksJ29_inflate_0 9 rfl rfl)
abbrev cJ29_canEncode : ByteArray := prog_35_method_3_code
def yJ29_canEncode : MethodName := ⟨RJ29, "canEncode", "(C)Z"⟩
def dkwJ29_canEncode_0 : List UInt8 := [26, 17, 0, 255, 163, 0, 7, 4, 167, 0, 4, 3, 172]
abbrev dktJ29_canEncode_0 : List UInt8 := dkwJ29_canEncode_0 ++ []
theorem dksJ29_canEncode_0 : cJ29_canEncode.data.toList.drop 0 = dktJ29_canEncode_0 := by decide +kernel
theorem dJ29_canEncode_0 : decode cJ29_canEncode 0 = .ok (.iload_n 0, 1) := dk_26 (dk_at dksJ29_canEncode_0 0 rfl rfl)
theorem dJ29_canEncode_1 : decode cJ29_canEncode 1 = .ok (.sipush 255, 3) := dk_17 0 255 (dk_at dksJ29_canEncode_0 1 rfl rfl)
theorem dJ29_canEncode_4 : decode cJ29_canEncode 4 = .ok (.if_icmp .gt 7, 3) := dk_163 0 7 (dk_at dksJ29_canEncode_0 4 rfl rfl)
theorem dJ29_canEncode_7 : decode cJ29_canEncode 7 = .ok (.iconst 1, 1) := dk_4 (dk_at dksJ29_canEncode_0 7 rfl rfl)
theorem dJ29_canEncode_8 : decode cJ29_canEncode 8 = .ok (.goto 4, 3) := dk_167 0 4 (dk_at dksJ29_canEncode_0 8 rfl rfl)
theorem dJ29_canEncode_11 : decode cJ29_canEncode 11 = .ok (.iconst 0, 1) := dk_3 (dk_at dksJ29_canEncode_0 11 rfl rfl)
theorem dJ29_canEncode_12 : decode cJ29_canEncode 12 = .ok (.ireturn, 1) := dk_172 (dk_at dksJ29_canEncode_0 12 rfl rfl)
abbrev cJ29_fillNull : ByteArray := prog_35_method_48_code
def yJ29_fillNull : MethodName := ⟨RJ29, "fillNull", "([BII)V"⟩
def dkwJ29_fillNull_0 : List UInt8 := [42, 27, 28, 3, 184, 0, 236, 177]
abbrev dktJ29_fillNull_0 : List UInt8 := dkwJ29_fillNull_0 ++ []
theorem dksJ29_fillNull_0 : cJ29_fillNull.data.toList.drop 0 = dktJ29_fillNull_0 := by decide +kernel
theorem dJ29_fillNull_0 : decode cJ29_fillNull 0 = .ok (.aload_n 0, 1) := dk_42 (dk_at dksJ29_fillNull_0 0 rfl rfl)
theorem dJ29_fillNull_1 : decode cJ29_fillNull 1 = .ok (.iload_n 1, 1) := dk_27 (dk_at dksJ29_fillNull_0 1 rfl rfl)
theorem dJ29_fillNull_2 : decode cJ29_fillNull 2 = .ok (.iload_n 2, 1) := dk_28 (dk_at dksJ29_fillNull_0 2 rfl rfl)
theorem dJ29_fillNull_3 : decode cJ29_fillNull 3 = .ok (.iconst 0, 1) := dk_3 (dk_at dksJ29_fillNull_0 3 rfl rfl)
theorem dJ29_fillNull_4 : decode cJ29_fillNull 4 = .ok (.invokestatic 236, 3) := dk_184 0 236 (dk_at dksJ29_fillNull_0 4 rfl rfl)
theorem dJ29_fillNull_7 : decode cJ29_fillNull 7 = .ok (.return_, 1) := dk_177 (dk_at dksJ29_fillNull_0 7 rfl rfl)
theorem q172 : (Jvm.Cond.initialized "java/lang/StringLatin1") ∈ lw_all := lw_g (lw_at lw_m1 41 rfl) rfl
theorem q1506 : (Jvm.Cond.static ({ cls := "java/lang/StringLatin1", name := "inflate", desc := "([BI[BII)V" } : Jvm.MethodName)) ∈ lw_all := lw_g (lw_at lw_m6 175 rfl) rfl
theorem q1507 : (Jvm.Cond.code ({ cls := "java/lang/StringLatin1", name := "inflate", desc := "([BI[BII)V" } : Jvm.MethodName) prog_35_method_50_code (5 : Nat) (Option.none : Option Jvm.ClassFile.FieldType)) ∈ lw_all := lw_g (lw_at lw_m6 176 rfl) rfl
theorem q1508 : (Jvm.Cond.methodLink "java/lang/StringLatin1" (240 : Nat) ({ cls := "java/lang/StringUTF16", name := "inflate", desc := "([BI[BII)V" } : Jvm.MethodName)) ∈ lw_all := lw_g (lw_at lw_m6 177 rfl) rfl
theorem q1869 : (Jvm.Cond.static ({ cls := "java/lang/StringLatin1", name := "canEncode", desc := "(C)Z" } : Jvm.MethodName)) ∈ lw_all := lw_g (lw_at lw_m8 58 rfl) rfl
theorem q1870 : (Jvm.Cond.code ({ cls := "java/lang/StringLatin1", name := "canEncode", desc := "(C)Z" } : Jvm.MethodName) prog_35_method_3_code (1 : Nat) (Option.some Jvm.ClassFile.FieldType.boolean)) ∈ lw_all := lw_g (lw_at lw_m8 59 rfl) rfl
theorem q1893 : (Jvm.Cond.static ({ cls := "java/lang/StringLatin1", name := "fillNull", desc := "([BII)V" } : Jvm.MethodName)) ∈ lw_all := lw_g (lw_at lw_m8 82 rfl) rfl
theorem q1894 : (Jvm.Cond.code ({ cls := "java/lang/StringLatin1", name := "fillNull", desc := "([BII)V" } : Jvm.MethodName) prog_35_method_48_code (3 : Nat) (Option.none : Option Jvm.ClassFile.FieldType)) ∈ lw_all := lw_g (lw_at lw_m8 83 rfl) rfl
theorem q1895 : (Jvm.Cond.methodLink "java/lang/StringLatin1" (236 : Nat) ({ cls := "java/util/Arrays", name := "fill", desc := "([BIIB)V" } : Jvm.MethodName)) ∈ lw_all := lw_g (lw_at lw_m8 84 rfl) rfl
/-! java/util/ArrayDeque -/
set_option maxRecDepth 100000
def RJ3 : String := "java/util/ArrayDeque"
def TJ3 : u_T := fun k => match k with
  | 0 => ("java/util/ArrayDeque", "elements", "[Ljava/lang/Object;", false)
  | 1 => ("java/util/ArrayDeque", "head", "I", false)
  | _ => ("java/util/ArrayDeque", "tail", "I", false)
def tyJ3 : Nat → FieldType := fun k => match k with
  | 0 => .array (.object "java/lang/Object")
  | 1 => .int
  | _ => .int
abbrev wsJ30 : List Cond := u_ws RJ3 TJ3 3
theorem nmJ3 : ∀ a, a < 3 → ∀ b, b < 3 → a ≠ b → (TJ3 a).2.1 ≠ (TJ3 b).2.1 := by decide +kernel
theorem tyJ3_ok : ∀ k, k < 3 → parseFieldDescriptor (TJ3 k).2.2.1 = some (tyJ3 k) := by decide +kernel
abbrev cJ3_init : ByteArray := prog_46_method_3_code
def yJ3_init : MethodName := ⟨RJ3, "<init>", "()V"⟩
def dkwJ3_init_0 : List UInt8 := [42, 183, 0, 42, 42, 16, 17, 189, 0, 47, 181, 0, 3, 177]
abbrev dktJ3_init_0 : List UInt8 := dkwJ3_init_0 ++ []
theorem dksJ3_init_0 : cJ3_init.data.toList.drop 0 = dktJ3_init_0 := by decide +kernel
theorem dJ3_init_0 : decode cJ3_init 0 = .ok (.aload_n 0, 1) := dk_42 (dk_at dksJ3_init_0 0 rfl rfl)
theorem dJ3_init_1 : decode cJ3_init 1 = .ok (.invokespecial 42, 3) := dk_183 0 42 (dk_at dksJ3_init_0 1 rfl rfl)
theorem dJ3_init_4 : decode cJ3_init 4 = .ok (.aload_n 0, 1) := dk_42 (dk_at dksJ3_init_0 4 rfl rfl)
theorem dJ3_init_5 : decode cJ3_init 5 = .ok (.bipush 17, 2) := dk_16 17 (dk_at dksJ3_init_0 5 rfl rfl)
theorem dJ3_init_7 : decode cJ3_init 7 = .ok (.anewarray 47, 3) := dk_189 0 47 (dk_at dksJ3_init_0 7 rfl rfl)
theorem dJ3_init_10 : decode cJ3_init 10 = .ok (.putfield 3, 3) := dk_181 0 3 (dk_at dksJ3_init_0 10 rfl rfl)
theorem dJ3_init_13 : decode cJ3_init 13 = .ok (.return_, 1) := dk_177 (dk_at dksJ3_init_0 13 rfl rfl)
abbrev cJ3_size : ByteArray := prog_46_method_37_code
def yJ3_size : MethodName := ⟨RJ3, "size", "()I"⟩
def dkwJ3_size_0 : List UInt8 := [42, 180, 0, 20, 42, 180, 0, 24, 42, 180, 0, 3, 190, 184, 0, 127, 172]
abbrev dktJ3_size_0 : List UInt8 := dkwJ3_size_0 ++ []
theorem dksJ3_size_0 : cJ3_size.data.toList.drop 0 = dktJ3_size_0 := by decide +kernel
theorem dJ3_size_0 : decode cJ3_size 0 = .ok (.aload_n 0, 1) := dk_42 (dk_at dksJ3_size_0 0 rfl rfl)
theorem dJ3_size_1 : decode cJ3_size 1 = .ok (.getfield 20, 3) := dk_180 0 20 (dk_at dksJ3_size_0 1 rfl rfl)
theorem dJ3_size_4 : decode cJ3_size 4 = .ok (.aload_n 0, 1) := dk_42 (dk_at dksJ3_size_0 4 rfl rfl)
theorem dJ3_size_5 : decode cJ3_size 5 = .ok (.getfield 24, 3) := dk_180 0 24 (dk_at dksJ3_size_0 5 rfl rfl)
theorem dJ3_size_8 : decode cJ3_size 8 = .ok (.aload_n 0, 1) := dk_42 (dk_at dksJ3_size_0 8 rfl rfl)
theorem dJ3_size_9 : decode cJ3_size 9 = .ok (.getfield 3, 3) := dk_180 0 3 (dk_at dksJ3_size_0 9 rfl rfl)
theorem dJ3_size_12 : decode cJ3_size 12 = .ok (.arraylength, 1) := dk_190 (dk_at dksJ3_size_0 12 rfl rfl)
theorem dJ3_size_13 : decode cJ3_size 13 = .ok (.invokestatic 127, 3) := dk_184 0 127 (dk_at dksJ3_size_0 13 rfl rfl)
theorem dJ3_size_16 : decode cJ3_size 16 = .ok (.ireturn, 1) := dk_172 (dk_at dksJ3_size_0 16 rfl rfl)
abbrev cJ3_sub : ByteArray := prog_46_method_9_code
def yJ3_sub : MethodName := ⟨RJ3, "sub", "(III)I"⟩
def dkwJ3_sub_0 : List UInt8 := [26, 27, 100, 89, 59, 156, 0, 7, 26, 28, 96, 59, 26, 172]
abbrev dktJ3_sub_0 : List UInt8 := dkwJ3_sub_0 ++ []
theorem dksJ3_sub_0 : cJ3_sub.data.toList.drop 0 = dktJ3_sub_0 := by decide +kernel
theorem dJ3_sub_0 : decode cJ3_sub 0 = .ok (.iload_n 0, 1) := dk_26 (dk_at dksJ3_sub_0 0 rfl rfl)
theorem dJ3_sub_1 : decode cJ3_sub 1 = .ok (.iload_n 1, 1) := dk_27 (dk_at dksJ3_sub_0 1 rfl rfl)
theorem dJ3_sub_2 : decode cJ3_sub 2 = .ok (.isub, 1) := dk_100 (dk_at dksJ3_sub_0 2 rfl rfl)
theorem dJ3_sub_3 : decode cJ3_sub 3 = .ok (.dup, 1) := dk_89 (dk_at dksJ3_sub_0 3 rfl rfl)
theorem dJ3_sub_4 : decode cJ3_sub 4 = .ok (.istore_n 0, 1) := dk_59 (dk_at dksJ3_sub_0 4 rfl rfl)
theorem dJ3_sub_5 : decode cJ3_sub 5 = .ok (.ifCond .ge 7, 3) := dk_156 0 7 (dk_at dksJ3_sub_0 5 rfl rfl)
theorem dJ3_sub_8 : decode cJ3_sub 8 = .ok (.iload_n 0, 1) := dk_26 (dk_at dksJ3_sub_0 8 rfl rfl)
theorem dJ3_sub_9 : decode cJ3_sub 9 = .ok (.iload_n 2, 1) := dk_28 (dk_at dksJ3_sub_0 9 rfl rfl)
theorem dJ3_sub_10 : decode cJ3_sub 10 = .ok (.iadd, 1) := dk_96 (dk_at dksJ3_sub_0 10 rfl rfl)
theorem dJ3_sub_11 : decode cJ3_sub 11 = .ok (.istore_n 0, 1) := dk_59 (dk_at dksJ3_sub_0 11 rfl rfl)
theorem dJ3_sub_12 : decode cJ3_sub 12 = .ok (.iload_n 0, 1) := dk_26 (dk_at dksJ3_sub_0 12 rfl rfl)
theorem dJ3_sub_13 : decode cJ3_sub 13 = .ok (.ireturn, 1) := dk_172 (dk_at dksJ3_sub_0 13 rfl rfl)
abbrev cJ3_removeFirst : ByteArray := prog_46_method_18_code
def yJ3_removeFirst : MethodName := ⟨RJ3, "removeFirst", "()Ljava/lang/Object;"⟩
def dkwJ3_removeFirst_0 : List UInt8 := [42, 182, 0, 93, 76, 43, 199, 0, 11, 187, 0, 97, 89, 183, 0, 99, 191, 43, 176]
abbrev dktJ3_removeFirst_0 : List UInt8 := dkwJ3_removeFirst_0 ++ []
theorem dksJ3_removeFirst_0 : cJ3_removeFirst.data.toList.drop 0 = dktJ3_removeFirst_0 := by decide +kernel
theorem dJ3_removeFirst_0 : decode cJ3_removeFirst 0 = .ok (.aload_n 0, 1) := dk_42 (dk_at dksJ3_removeFirst_0 0 rfl rfl)
theorem dJ3_removeFirst_1 : decode cJ3_removeFirst 1 = .ok (.invokevirtual 93, 3) := dk_182 0 93 (dk_at dksJ3_removeFirst_0 1 rfl rfl)
theorem dJ3_removeFirst_4 : decode cJ3_removeFirst 4 = .ok (.astore_n 1, 1) := dk_76 (dk_at dksJ3_removeFirst_0 4 rfl rfl)
theorem dJ3_removeFirst_5 : decode cJ3_removeFirst 5 = .ok (.aload_n 1, 1) := dk_43 (dk_at dksJ3_removeFirst_0 5 rfl rfl)
theorem dJ3_removeFirst_6 : decode cJ3_removeFirst 6 = .ok (.ifnonnull 11, 3) := dk_199 0 11 (dk_at dksJ3_removeFirst_0 6 rfl rfl)
theorem dJ3_removeFirst_9 : decode cJ3_removeFirst 9 = .ok (.new 97, 3) := dk_187 0 97 (dk_at dksJ3_removeFirst_0 9 rfl rfl)
theorem dJ3_removeFirst_12 : decode cJ3_removeFirst 12 = .ok (.dup, 1) := dk_89 (dk_at dksJ3_removeFirst_0 12 rfl rfl)
theorem dJ3_removeFirst_13 : decode cJ3_removeFirst 13 = .ok (.invokespecial 99, 3) := dk_183 0 99 (dk_at dksJ3_removeFirst_0 13 rfl rfl)
theorem dJ3_removeFirst_16 : decode cJ3_removeFirst 16 = .ok (.athrow, 1) := dk_191 (dk_at dksJ3_removeFirst_0 16 rfl rfl)
theorem dJ3_removeFirst_17 : decode cJ3_removeFirst 17 = .ok (.aload_n 1, 1) := dk_43 (dk_at dksJ3_removeFirst_0 17 rfl rfl)
theorem dJ3_removeFirst_18 : decode cJ3_removeFirst 18 = .ok (.areturn, 1) := dk_176 (dk_at dksJ3_removeFirst_0 18 rfl rfl)
abbrev cJ3_pollFirst : ByteArray := prog_46_method_20_code
def yJ3_pollFirst : MethodName := ⟨RJ3, "pollFirst", "()Ljava/lang/Object;"⟩
def dkwJ3_pollFirst_1 : List UInt8 := [42, 28, 43, 190, 184, 0, 74, 181, 0, 24, 45, 176]
abbrev dktJ3_pollFirst_1 : List UInt8 := dkwJ3_pollFirst_1 ++ []
def dkwJ3_pollFirst_0 : List UInt8 := [42, 180, 0, 3, 89, 76, 42, 180, 0, 24, 89, 61, 184, 0, 103, 78, 45, 198, 0, 17, 43, 28, 1, 83]
abbrev dktJ3_pollFirst_0 : List UInt8 := dkwJ3_pollFirst_0 ++ dktJ3_pollFirst_1
theorem dksJ3_pollFirst_0 : cJ3_pollFirst.data.toList.drop 0 = dktJ3_pollFirst_0 := by decide +kernel
theorem dksJ3_pollFirst_1 : cJ3_pollFirst.data.toList.drop 24 = dktJ3_pollFirst_1 := dk_seg dksJ3_pollFirst_0 24 rfl rfl
theorem dJ3_pollFirst_0 : decode cJ3_pollFirst 0 = .ok (.aload_n 0, 1) := dk_42 (dk_at dksJ3_pollFirst_0 0 rfl rfl)
theorem dJ3_pollFirst_1 : decode cJ3_pollFirst 1 = .ok (.getfield 3, 3) := dk_180 0 3 (dk_at dksJ3_pollFirst_0 1 rfl rfl)
theorem dJ3_pollFirst_4 : decode cJ3_pollFirst 4 = .ok (.dup, 1) := dk_89 (dk_at dksJ3_pollFirst_0 4 rfl rfl)
theorem dJ3_pollFirst_5 : decode cJ3_pollFirst 5 = .ok (.astore_n 1, 1) := dk_76 (dk_at dksJ3_pollFirst_0 5 rfl rfl)
theorem dJ3_pollFirst_6 : decode cJ3_pollFirst 6 = .ok (.aload_n 0, 1) := dk_42 (dk_at dksJ3_pollFirst_0 6 rfl rfl)
theorem dJ3_pollFirst_7 : decode cJ3_pollFirst 7 = .ok (.getfield 24, 3) := dk_180 0 24 (dk_at dksJ3_pollFirst_0 7 rfl rfl)
theorem dJ3_pollFirst_10 : decode cJ3_pollFirst 10 = .ok (.dup, 1) := dk_89 (dk_at dksJ3_pollFirst_0 10 rfl rfl)
theorem dJ3_pollFirst_11 : decode cJ3_pollFirst 11 = .ok (.istore_n 2, 1) := dk_61 (dk_at dksJ3_pollFirst_0 11 rfl rfl)
theorem dJ3_pollFirst_12 : decode cJ3_pollFirst 12 = .ok (.invokestatic 103, 3) := dk_184 0 103 (dk_at dksJ3_pollFirst_0 12 rfl rfl)
theorem dJ3_pollFirst_15 : decode cJ3_pollFirst 15 = .ok (.astore_n 3, 1) := dk_78 (dk_at dksJ3_pollFirst_0 15 rfl rfl)
theorem dJ3_pollFirst_16 : decode cJ3_pollFirst 16 = .ok (.aload_n 3, 1) := dk_45 (dk_at dksJ3_pollFirst_0 16 rfl rfl)
theorem dJ3_pollFirst_17 : decode cJ3_pollFirst 17 = .ok (.ifnull 17, 3) := dk_198 0 17 (dk_at dksJ3_pollFirst_0 17 rfl rfl)
theorem dJ3_pollFirst_20 : decode cJ3_pollFirst 20 = .ok (.aload_n 1, 1) := dk_43 (dk_at dksJ3_pollFirst_0 20 rfl rfl)
theorem dJ3_pollFirst_21 : decode cJ3_pollFirst 21 = .ok (.iload_n 2, 1) := dk_28 (dk_at dksJ3_pollFirst_0 21 rfl rfl)
theorem dJ3_pollFirst_22 : decode cJ3_pollFirst 22 = .ok (.aconst_null, 1) := dk_1 (dk_at dksJ3_pollFirst_0 22 rfl rfl)
theorem dJ3_pollFirst_23 : decode cJ3_pollFirst 23 = .ok (.aastore, 1) := dk_83 (dk_at dksJ3_pollFirst_0 23 rfl rfl)
theorem dJ3_pollFirst_24 : decode cJ3_pollFirst 24 = .ok (.aload_n 0, 1) := dk_42 (dk_at dksJ3_pollFirst_1 0 rfl rfl)
theorem dJ3_pollFirst_25 : decode cJ3_pollFirst 25 = .ok (.iload_n 2, 1) := dk_28 (dk_at dksJ3_pollFirst_1 1 rfl rfl)
theorem dJ3_pollFirst_26 : decode cJ3_pollFirst 26 = .ok (.aload_n 1, 1) := dk_43 (dk_at dksJ3_pollFirst_1 2 rfl rfl)
theorem dJ3_pollFirst_27 : decode cJ3_pollFirst 27 = .ok (.arraylength, 1) := dk_190 (dk_at dksJ3_pollFirst_1 3 rfl rfl)
theorem dJ3_pollFirst_28 : decode cJ3_pollFirst 28 = .ok (.invokestatic 74, 3) := dk_184 0 74 (dk_at dksJ3_pollFirst_1 4 rfl rfl)
theorem dJ3_pollFirst_31 : decode cJ3_pollFirst 31 = .ok (.putfield 24, 3) := dk_181 0 24 (dk_at dksJ3_pollFirst_1 7 rfl rfl)
theorem dJ3_pollFirst_34 : decode cJ3_pollFirst 34 = .ok (.aload_n 3, 1) := dk_45 (dk_at dksJ3_pollFirst_1 10 rfl rfl)
theorem dJ3_pollFirst_35 : decode cJ3_pollFirst 35 = .ok (.areturn, 1) := dk_176 (dk_at dksJ3_pollFirst_1 11 rfl rfl)
abbrev cJ3_elementAt : ByteArray := prog_46_method_10_code
def yJ3_elementAt : MethodName := ⟨RJ3, "elementAt", "([Ljava/lang/Object;I)Ljava/lang/Object;"⟩
def dkwJ3_elementAt_0 : List UInt8 := [42, 27, 50, 176]
abbrev dktJ3_elementAt_0 : List UInt8 := dkwJ3_elementAt_0 ++ []
theorem dksJ3_elementAt_0 : cJ3_elementAt.data.toList.drop 0 = dktJ3_elementAt_0 := by decide +kernel
theorem dJ3_elementAt_0 : decode cJ3_elementAt 0 = .ok (.aload_n 0, 1) := dk_42 (dk_at dksJ3_elementAt_0 0 rfl rfl)
theorem dJ3_elementAt_1 : decode cJ3_elementAt 1 = .ok (.iload_n 1, 1) := dk_27 (dk_at dksJ3_elementAt_0 1 rfl rfl)
theorem dJ3_elementAt_2 : decode cJ3_elementAt 2 = .ok (.aaload, 1) := dk_50 (dk_at dksJ3_elementAt_0 2 rfl rfl)
theorem dJ3_elementAt_3 : decode cJ3_elementAt 3 = .ok (.areturn, 1) := dk_176 (dk_at dksJ3_elementAt_0 3 rfl rfl)
abbrev cJ3_inc : ByteArray := prog_46_method_6_code
def yJ3_inc : MethodName := ⟨RJ3, "inc", "(II)I"⟩
def dkwJ3_inc_0 : List UInt8 := [132, 0, 1, 26, 27, 161, 0, 5, 3, 59, 26, 172]
abbrev dktJ3_inc_0 : List UInt8 := dkwJ3_inc_0 ++ []
theorem dksJ3_inc_0 : cJ3_inc.data.toList.drop 0 = dktJ3_inc_0 := by decide +kernel
theorem dJ3_inc_0 : decode cJ3_inc 0 = .ok (.iinc 0 1, 3) := dk_132 0 1 (dk_at dksJ3_inc_0 0 rfl rfl)
theorem dJ3_inc_3 : decode cJ3_inc 3 = .ok (.iload_n 0, 1) := dk_26 (dk_at dksJ3_inc_0 3 rfl rfl)
theorem dJ3_inc_4 : decode cJ3_inc 4 = .ok (.iload_n 1, 1) := dk_27 (dk_at dksJ3_inc_0 4 rfl rfl)
theorem dJ3_inc_5 : decode cJ3_inc 5 = .ok (.if_icmp .lt 5, 3) := dk_161 0 5 (dk_at dksJ3_inc_0 5 rfl rfl)
theorem dJ3_inc_8 : decode cJ3_inc 8 = .ok (.iconst 0, 1) := dk_3 (dk_at dksJ3_inc_0 8 rfl rfl)
theorem dJ3_inc_9 : decode cJ3_inc 9 = .ok (.istore_n 0, 1) := dk_59 (dk_at dksJ3_inc_0 9 rfl rfl)
theorem dJ3_inc_10 : decode cJ3_inc 10 = .ok (.iload_n 0, 1) := dk_26 (dk_at dksJ3_inc_0 10 rfl rfl)
theorem dJ3_inc_11 : decode cJ3_inc 11 = .ok (.ireturn, 1) := dk_172 (dk_at dksJ3_inc_0 11 rfl rfl)
abbrev cJ3_addLast : ByteArray := prog_46_method_13_code
def yJ3_addLast : MethodName := ⟨RJ3, "addLast", "(Ljava/lang/Object;)V"⟩
def dkwJ3_addLast_2 : List UInt8 := [182, 0, 71, 177]
abbrev dktJ3_addLast_2 : List UInt8 := dkwJ3_addLast_2 ++ []
def dkwJ3_addLast_1 : List UInt8 := [42, 180, 0, 24, 42, 42, 180, 0, 20, 44, 190, 184, 0, 74, 90, 181, 0, 20, 160, 0, 8, 42, 4]
abbrev dktJ3_addLast_1 : List UInt8 := dkwJ3_addLast_1 ++ dktJ3_addLast_2
def dkwJ3_addLast_0 : List UInt8 := [43, 199, 0, 11, 187, 0, 65, 89, 183, 0, 67, 191, 42, 180, 0, 3, 77, 44, 42, 180, 0, 20, 43, 83]
abbrev dktJ3_addLast_0 : List UInt8 := dkwJ3_addLast_0 ++ dktJ3_addLast_1
theorem dksJ3_addLast_0 : cJ3_addLast.data.toList.drop 0 = dktJ3_addLast_0 := by decide +kernel
theorem dksJ3_addLast_1 : cJ3_addLast.data.toList.drop 24 = dktJ3_addLast_1 := dk_seg dksJ3_addLast_0 24 rfl rfl
theorem dksJ3_addLast_2 : cJ3_addLast.data.toList.drop 47 = dktJ3_addLast_2 := dk_seg dksJ3_addLast_1 23 rfl rfl
theorem dJ3_addLast_0 : decode cJ3_addLast 0 = .ok (.aload_n 1, 1) := dk_43 (dk_at dksJ3_addLast_0 0 rfl rfl)
theorem dJ3_addLast_1 : decode cJ3_addLast 1 = .ok (.ifnonnull 11, 3) := dk_199 0 11 (dk_at dksJ3_addLast_0 1 rfl rfl)
theorem dJ3_addLast_4 : decode cJ3_addLast 4 = .ok (.new 65, 3) := dk_187 0 65 (dk_at dksJ3_addLast_0 4 rfl rfl)
theorem dJ3_addLast_7 : decode cJ3_addLast 7 = .ok (.dup, 1) := dk_89 (dk_at dksJ3_addLast_0 7 rfl rfl)
theorem dJ3_addLast_8 : decode cJ3_addLast 8 = .ok (.invokespecial 67, 3) := dk_183 0 67 (dk_at dksJ3_addLast_0 8 rfl rfl)
theorem dJ3_addLast_11 : decode cJ3_addLast 11 = .ok (.athrow, 1) := dk_191 (dk_at dksJ3_addLast_0 11 rfl rfl)
theorem dJ3_addLast_12 : decode cJ3_addLast 12 = .ok (.aload_n 0, 1) := dk_42 (dk_at dksJ3_addLast_0 12 rfl rfl)
theorem dJ3_addLast_13 : decode cJ3_addLast 13 = .ok (.getfield 3, 3) := dk_180 0 3 (dk_at dksJ3_addLast_0 13 rfl rfl)
theorem dJ3_addLast_16 : decode cJ3_addLast 16 = .ok (.astore_n 2, 1) := dk_77 (dk_at dksJ3_addLast_0 16 rfl rfl)
theorem dJ3_addLast_17 : decode cJ3_addLast 17 = .ok (.aload_n 2, 1) := dk_44 (dk_at dksJ3_addLast_0 17 rfl rfl)
theorem dJ3_addLast_18 : decode cJ3_addLast 18 = .ok (.aload_n 0, 1) := dk_42 (dk_at dksJ3_addLast_0 18 rfl rfl)
theorem dJ3_addLast_19 : decode cJ3_addLast 19 = .ok (.getfield 20, 3) := dk_180 0 20 (dk_at dksJ3_addLast_0 19 rfl rfl)
theorem dJ3_addLast_22 : decode cJ3_addLast 22 = .ok (.aload_n 1, 1) := dk_43 (dk_at dksJ3_addLast_0 22 rfl rfl)
theorem dJ3_addLast_23 : decode cJ3_addLast 23 = .ok (.aastore, 1) := dk_83 (dk_at dksJ3_addLast_0 23 rfl rfl)
theorem dJ3_addLast_24 : decode cJ3_addLast 24 = .ok (.aload_n 0, 1) := dk_42 (dk_at dksJ3_addLast_1 0 rfl rfl)
theorem dJ3_addLast_25 : decode cJ3_addLast 25 = .ok (.getfield 24, 3) := dk_180 0 24 (dk_at dksJ3_addLast_1 1 rfl rfl)
theorem dJ3_addLast_28 : decode cJ3_addLast 28 = .ok (.aload_n 0, 1) := dk_42 (dk_at dksJ3_addLast_1 4 rfl rfl)
theorem dJ3_addLast_29 : decode cJ3_addLast 29 = .ok (.aload_n 0, 1) := dk_42 (dk_at dksJ3_addLast_1 5 rfl rfl)
theorem dJ3_addLast_30 : decode cJ3_addLast 30 = .ok (.getfield 20, 3) := dk_180 0 20 (dk_at dksJ3_addLast_1 6 rfl rfl)
theorem dJ3_addLast_33 : decode cJ3_addLast 33 = .ok (.aload_n 2, 1) := dk_44 (dk_at dksJ3_addLast_1 9 rfl rfl)
theorem dJ3_addLast_34 : decode cJ3_addLast 34 = .ok (.arraylength, 1) := dk_190 (dk_at dksJ3_addLast_1 10 rfl rfl)
theorem dJ3_addLast_35 : decode cJ3_addLast 35 = .ok (.invokestatic 74, 3) := dk_184 0 74 (dk_at dksJ3_addLast_1 11 rfl rfl)
theorem dJ3_addLast_38 : decode cJ3_addLast 38 = .ok (.dup_x1, 1) := dk_90 (dk_at dksJ3_addLast_1 14 rfl rfl)
theorem dJ3_addLast_39 : decode cJ3_addLast 39 = .ok (.putfield 20, 3) := dk_181 0 20 (dk_at dksJ3_addLast_1 15 rfl rfl)
theorem dJ3_addLast_42 : decode cJ3_addLast 42 = .ok (.if_icmp .ne 8, 3) := dk_160 0 8 (dk_at dksJ3_addLast_1 18 rfl rfl)
theorem dJ3_addLast_45 : decode cJ3_addLast 45 = .ok (.aload_n 0, 1) := dk_42 (dk_at dksJ3_addLast_1 21 rfl rfl)
theorem dJ3_addLast_46 : decode cJ3_addLast 46 = .ok (.iconst 1, 1) := dk_4 (dk_at dksJ3_addLast_1 22 rfl rfl)
theorem dJ3_addLast_47 : decode cJ3_addLast 47 = .ok (.invokevirtual 71, 3) := dk_182 0 71 (dk_at dksJ3_addLast_2 0 rfl rfl)
theorem dJ3_addLast_50 : decode cJ3_addLast 50 = .ok (.return_, 1) := dk_177 (dk_at dksJ3_addLast_2 3 rfl rfl)
abbrev cJ3_grow : ByteArray := prog_46_method_1_code
def yJ3_grow : MethodName := ⟨RJ3, "grow", "(I)V"⟩
def dkwJ3_grow_7 : List UInt8 := [177]
abbrev dktJ3_grow_7 : List UInt8 := dkwJ3_grow_7 ++ []
def dkwJ3_grow_6 : List UInt8 := [181, 0, 24, 54, 8, 21, 7, 21, 8, 162, 0, 15, 25, 5, 21, 7, 1, 83, 132, 7, 1, 167, 255, 240]
abbrev dktJ3_grow_6 : List UInt8 := dkwJ3_grow_6 ++ dktJ3_grow_7
def dkwJ3_grow_5 : List UInt8 := [42, 180, 0, 24, 100, 184, 0, 27, 42, 180, 0, 24, 54, 7, 42, 89, 180, 0, 24, 21, 6, 96, 90]
abbrev dktJ3_grow_5 : List UInt8 := dkwJ3_grow_5 ++ dktJ3_grow_6
def dkwJ3_grow_4 : List UInt8 := [198, 0, 71, 29, 28, 100, 54, 6, 25, 5, 42, 180, 0, 24, 25, 5, 42, 180, 0, 24, 21, 6, 96, 28]
abbrev dktJ3_grow_4 : List UInt8 := dkwJ3_grow_4 ++ dktJ3_grow_5
def dkwJ3_grow_3 : List UInt8 := [180, 0, 24, 161, 0, 24, 42, 180, 0, 20, 42, 180, 0, 24, 160, 0, 81, 25, 5, 42, 180, 0, 24, 50]
abbrev dktJ3_grow_3 : List UInt8 := dkwJ3_grow_3 ++ dktJ3_grow_4
def dkwJ3_grow_2 : List UInt8 := [182, 0, 10, 62, 42, 42, 180, 0, 3, 29, 184, 0, 14, 90, 181, 0, 3, 58, 5, 42, 180, 0, 20, 42]
abbrev dktJ3_grow_2 : List UInt8 := dkwJ3_grow_2 ++ dktJ3_grow_3
def dkwJ3_grow_1 : List UInt8 := [21, 4, 27, 161, 0, 15, 28, 21, 4, 96, 89, 62, 18, 9, 100, 158, 0, 11, 42, 27, 21, 4]
abbrev dktJ3_grow_1 : List UInt8 := dkwJ3_grow_1 ++ dktJ3_grow_2
def dkwJ3_grow_0 : List UInt8 := [42, 180, 0, 3, 190, 61, 28, 16, 64, 162, 0, 9, 28, 5, 96, 167, 0, 6, 28, 4, 122, 54, 4]
abbrev dktJ3_grow_0 : List UInt8 := dkwJ3_grow_0 ++ dktJ3_grow_1
theorem dksJ3_grow_0 : cJ3_grow.data.toList.drop 0 = dktJ3_grow_0 := by decide +kernel
theorem dksJ3_grow_1 : cJ3_grow.data.toList.drop 23 = dktJ3_grow_1 := dk_seg dksJ3_grow_0 23 rfl rfl
theorem dksJ3_grow_2 : cJ3_grow.data.toList.drop 45 = dktJ3_grow_2 := dk_seg dksJ3_grow_1 22 rfl rfl
theorem dksJ3_grow_3 : cJ3_grow.data.toList.drop 69 = dktJ3_grow_3 := dk_seg dksJ3_grow_2 24 rfl rfl
theorem dksJ3_grow_4 : cJ3_grow.data.toList.drop 93 = dktJ3_grow_4 := dk_seg dksJ3_grow_3 24 rfl rfl
theorem dksJ3_grow_5 : cJ3_grow.data.toList.drop 117 = dktJ3_grow_5 := dk_seg dksJ3_grow_4 24 rfl rfl
theorem dksJ3_grow_6 : cJ3_grow.data.toList.drop 140 = dktJ3_grow_6 := dk_seg dksJ3_grow_5 23 rfl rfl
theorem dksJ3_grow_7 : cJ3_grow.data.toList.drop 164 = dktJ3_grow_7 := dk_seg dksJ3_grow_6 24 rfl rfl
theorem dJ3_grow_0 : decode cJ3_grow 0 = .ok (.aload_n 0, 1) := dk_42 (dk_at dksJ3_grow_0 0 rfl rfl)
theorem dJ3_grow_1 : decode cJ3_grow 1 = .ok (.getfield 3, 3) := dk_180 0 3 (dk_at dksJ3_grow_0 1 rfl rfl)
theorem dJ3_grow_4 : decode cJ3_grow 4 = .ok (.arraylength, 1) := dk_190 (dk_at dksJ3_grow_0 4 rfl rfl)
theorem dJ3_grow_5 : decode cJ3_grow 5 = .ok (.istore_n 2, 1) := dk_61 (dk_at dksJ3_grow_0 5 rfl rfl)
theorem dJ3_grow_6 : decode cJ3_grow 6 = .ok (.iload_n 2, 1) := dk_28 (dk_at dksJ3_grow_0 6 rfl rfl)
theorem dJ3_grow_7 : decode cJ3_grow 7 = .ok (.bipush 64, 2) := dk_16 64 (dk_at dksJ3_grow_0 7 rfl rfl)
theorem dJ3_grow_9 : decode cJ3_grow 9 = .ok (.if_icmp .ge 9, 3) := dk_162 0 9 (dk_at dksJ3_grow_0 9 rfl rfl)
theorem dJ3_grow_12 : decode cJ3_grow 12 = .ok (.iload_n 2, 1) := dk_28 (dk_at dksJ3_grow_0 12 rfl rfl)
theorem dJ3_grow_13 : decode cJ3_grow 13 = .ok (.iconst 2, 1) := dk_5 (dk_at dksJ3_grow_0 13 rfl rfl)
theorem dJ3_grow_14 : decode cJ3_grow 14 = .ok (.iadd, 1) := dk_96 (dk_at dksJ3_grow_0 14 rfl rfl)
theorem dJ3_grow_15 : decode cJ3_grow 15 = .ok (.goto 6, 3) := dk_167 0 6 (dk_at dksJ3_grow_0 15 rfl rfl)
theorem dJ3_grow_18 : decode cJ3_grow 18 = .ok (.iload_n 2, 1) := dk_28 (dk_at dksJ3_grow_0 18 rfl rfl)
theorem dJ3_grow_19 : decode cJ3_grow 19 = .ok (.iconst 1, 1) := dk_4 (dk_at dksJ3_grow_0 19 rfl rfl)
theorem dJ3_grow_20 : decode cJ3_grow 20 = .ok (.ishr, 1) := dk_122 (dk_at dksJ3_grow_0 20 rfl rfl)
theorem dJ3_grow_21 : decode cJ3_grow 21 = .ok (.istore 4, 2) := dk_54 4 (dk_at dksJ3_grow_0 21 rfl rfl)
theorem dJ3_grow_23 : decode cJ3_grow 23 = .ok (.iload 4, 2) := dk_21 4 (dk_at dksJ3_grow_1 0 rfl rfl)
theorem dJ3_grow_25 : decode cJ3_grow 25 = .ok (.iload_n 1, 1) := dk_27 (dk_at dksJ3_grow_1 2 rfl rfl)
theorem dJ3_grow_26 : decode cJ3_grow 26 = .ok (.if_icmp .lt 15, 3) := dk_161 0 15 (dk_at dksJ3_grow_1 3 rfl rfl)
theorem dJ3_grow_29 : decode cJ3_grow 29 = .ok (.iload_n 2, 1) := dk_28 (dk_at dksJ3_grow_1 6 rfl rfl)
theorem dJ3_grow_30 : decode cJ3_grow 30 = .ok (.iload 4, 2) := dk_21 4 (dk_at dksJ3_grow_1 7 rfl rfl)
theorem dJ3_grow_32 : decode cJ3_grow 32 = .ok (.iadd, 1) := dk_96 (dk_at dksJ3_grow_1 9 rfl rfl)
theorem dJ3_grow_33 : decode cJ3_grow 33 = .ok (.dup, 1) := dk_89 (dk_at dksJ3_grow_1 10 rfl rfl)
theorem dJ3_grow_34 : decode cJ3_grow 34 = .ok (.istore_n 3, 1) := dk_62 (dk_at dksJ3_grow_1 11 rfl rfl)
theorem dJ3_grow_35 : decode cJ3_grow 35 = .ok (.ldc 9, 2) := dk_18 9 (dk_at dksJ3_grow_1 12 rfl rfl)
theorem dJ3_grow_37 : decode cJ3_grow 37 = .ok (.isub, 1) := dk_100 (dk_at dksJ3_grow_1 14 rfl rfl)
theorem dJ3_grow_38 : decode cJ3_grow 38 = .ok (.ifCond .le 11, 3) := dk_158 0 11 (dk_at dksJ3_grow_1 15 rfl rfl)
theorem dJ3_grow_41 : decode cJ3_grow 41 = .ok (.aload_n 0, 1) := dk_42 (dk_at dksJ3_grow_1 18 rfl rfl)
theorem dJ3_grow_42 : decode cJ3_grow 42 = .ok (.iload_n 1, 1) := dk_27 (dk_at dksJ3_grow_1 19 rfl rfl)
theorem dJ3_grow_43 : decode cJ3_grow 43 = .ok (.iload 4, 2) := dk_21 4 (dk_at dksJ3_grow_1 20 rfl rfl)
theorem dJ3_grow_45 : decode cJ3_grow 45 = .ok (.invokevirtual 10, 3) := dk_182 0 10 (dk_at dksJ3_grow_2 0 rfl rfl)
theorem dJ3_grow_48 : decode cJ3_grow 48 = .ok (.istore_n 3, 1) := dk_62 (dk_at dksJ3_grow_2 3 rfl rfl)
theorem dJ3_grow_49 : decode cJ3_grow 49 = .ok (.aload_n 0, 1) := dk_42 (dk_at dksJ3_grow_2 4 rfl rfl)
theorem dJ3_grow_50 : decode cJ3_grow 50 = .ok (.aload_n 0, 1) := dk_42 (dk_at dksJ3_grow_2 5 rfl rfl)
theorem dJ3_grow_51 : decode cJ3_grow 51 = .ok (.getfield 3, 3) := dk_180 0 3 (dk_at dksJ3_grow_2 6 rfl rfl)
theorem dJ3_grow_54 : decode cJ3_grow 54 = .ok (.iload_n 3, 1) := dk_29 (dk_at dksJ3_grow_2 9 rfl rfl)
theorem dJ3_grow_55 : decode cJ3_grow 55 = .ok (.invokestatic 14, 3) := dk_184 0 14 (dk_at dksJ3_grow_2 10 rfl rfl)
theorem dJ3_grow_58 : decode cJ3_grow 58 = .ok (.dup_x1, 1) := dk_90 (dk_at dksJ3_grow_2 13 rfl rfl)
theorem dJ3_grow_59 : decode cJ3_grow 59 = .ok (.putfield 3, 3) := dk_181 0 3 (dk_at dksJ3_grow_2 14 rfl rfl)
theorem dJ3_grow_62 : decode cJ3_grow 62 = .ok (.astore 5, 2) := dk_58 5 (dk_at dksJ3_grow_2 17 rfl rfl)
theorem dJ3_grow_64 : decode cJ3_grow 64 = .ok (.aload_n 0, 1) := dk_42 (dk_at dksJ3_grow_2 19 rfl rfl)
theorem dJ3_grow_65 : decode cJ3_grow 65 = .ok (.getfield 20, 3) := dk_180 0 20 (dk_at dksJ3_grow_2 20 rfl rfl)
theorem dJ3_grow_68 : decode cJ3_grow 68 = .ok (.aload_n 0, 1) := dk_42 (dk_at dksJ3_grow_2 23 rfl rfl)
theorem dJ3_grow_69 : decode cJ3_grow 69 = .ok (.getfield 24, 3) := dk_180 0 24 (dk_at dksJ3_grow_3 0 rfl rfl)
theorem dJ3_grow_72 : decode cJ3_grow 72 = .ok (.if_icmp .lt 24, 3) := dk_161 0 24 (dk_at dksJ3_grow_3 3 rfl rfl)
theorem dJ3_grow_75 : decode cJ3_grow 75 = .ok (.aload_n 0, 1) := dk_42 (dk_at dksJ3_grow_3 6 rfl rfl)
theorem dJ3_grow_76 : decode cJ3_grow 76 = .ok (.getfield 20, 3) := dk_180 0 20 (dk_at dksJ3_grow_3 7 rfl rfl)
theorem dJ3_grow_79 : decode cJ3_grow 79 = .ok (.aload_n 0, 1) := dk_42 (dk_at dksJ3_grow_3 10 rfl rfl)
theorem dJ3_grow_80 : decode cJ3_grow 80 = .ok (.getfield 24, 3) := dk_180 0 24 (dk_at dksJ3_grow_3 11 rfl rfl)
theorem dJ3_grow_83 : decode cJ3_grow 83 = .ok (.if_icmp .ne 81, 3) := dk_160 0 81 (dk_at dksJ3_grow_3 14 rfl rfl)
theorem dJ3_grow_86 : decode cJ3_grow 86 = .ok (.aload 5, 2) := dk_25 5 (dk_at dksJ3_grow_3 17 rfl rfl)
theorem dJ3_grow_88 : decode cJ3_grow 88 = .ok (.aload_n 0, 1) := dk_42 (dk_at dksJ3_grow_3 19 rfl rfl)
theorem dJ3_grow_89 : decode cJ3_grow 89 = .ok (.getfield 24, 3) := dk_180 0 24 (dk_at dksJ3_grow_3 20 rfl rfl)
theorem dJ3_grow_92 : decode cJ3_grow 92 = .ok (.aaload, 1) := dk_50 (dk_at dksJ3_grow_3 23 rfl rfl)
theorem dJ3_grow_93 : decode cJ3_grow 93 = .ok (.ifnull 71, 3) := dk_198 0 71 (dk_at dksJ3_grow_4 0 rfl rfl)
theorem dJ3_grow_96 : decode cJ3_grow 96 = .ok (.iload_n 3, 1) := dk_29 (dk_at dksJ3_grow_4 3 rfl rfl)
theorem dJ3_grow_97 : decode cJ3_grow 97 = .ok (.iload_n 2, 1) := dk_28 (dk_at dksJ3_grow_4 4 rfl rfl)
theorem dJ3_grow_98 : decode cJ3_grow 98 = .ok (.isub, 1) := dk_100 (dk_at dksJ3_grow_4 5 rfl rfl)
theorem dJ3_grow_99 : decode cJ3_grow 99 = .ok (.istore 6, 2) := dk_54 6 (dk_at dksJ3_grow_4 6 rfl rfl)
theorem dJ3_grow_101 : decode cJ3_grow 101 = .ok (.aload 5, 2) := dk_25 5 (dk_at dksJ3_grow_4 8 rfl rfl)
theorem dJ3_grow_103 : decode cJ3_grow 103 = .ok (.aload_n 0, 1) := dk_42 (dk_at dksJ3_grow_4 10 rfl rfl)
theorem dJ3_grow_104 : decode cJ3_grow 104 = .ok (.getfield 24, 3) := dk_180 0 24 (dk_at dksJ3_grow_4 11 rfl rfl)
theorem dJ3_grow_107 : decode cJ3_grow 107 = .ok (.aload 5, 2) := dk_25 5 (dk_at dksJ3_grow_4 14 rfl rfl)
theorem dJ3_grow_109 : decode cJ3_grow 109 = .ok (.aload_n 0, 1) := dk_42 (dk_at dksJ3_grow_4 16 rfl rfl)
theorem dJ3_grow_110 : decode cJ3_grow 110 = .ok (.getfield 24, 3) := dk_180 0 24 (dk_at dksJ3_grow_4 17 rfl rfl)
theorem dJ3_grow_113 : decode cJ3_grow 113 = .ok (.iload 6, 2) := dk_21 6 (dk_at dksJ3_grow_4 20 rfl rfl)
theorem dJ3_grow_115 : decode cJ3_grow 115 = .ok (.iadd, 1) := dk_96 (dk_at dksJ3_grow_4 22 rfl rfl)
theorem dJ3_grow_116 : decode cJ3_grow 116 = .ok (.iload_n 2, 1) := dk_28 (dk_at dksJ3_grow_4 23 rfl rfl)
theorem dJ3_grow_117 : decode cJ3_grow 117 = .ok (.aload_n 0, 1) := dk_42 (dk_at dksJ3_grow_5 0 rfl rfl)
theorem dJ3_grow_118 : decode cJ3_grow 118 = .ok (.getfield 24, 3) := dk_180 0 24 (dk_at dksJ3_grow_5 1 rfl rfl)
theorem dJ3_grow_121 : decode cJ3_grow 121 = .ok (.isub, 1) := dk_100 (dk_at dksJ3_grow_5 4 rfl rfl)
theorem dJ3_grow_122 : decode cJ3_grow 122 = .ok (.invokestatic 27, 3) := dk_184 0 27 (dk_at dksJ3_grow_5 5 rfl rfl)
theorem dJ3_grow_125 : decode cJ3_grow 125 = .ok (.aload_n 0, 1) := dk_42 (dk_at dksJ3_grow_5 8 rfl rfl)
theorem dJ3_grow_126 : decode cJ3_grow 126 = .ok (.getfield 24, 3) := dk_180 0 24 (dk_at dksJ3_grow_5 9 rfl rfl)
theorem dJ3_grow_129 : decode cJ3_grow 129 = .ok (.istore 7, 2) := dk_54 7 (dk_at dksJ3_grow_5 12 rfl rfl)
theorem dJ3_grow_131 : decode cJ3_grow 131 = .ok (.aload_n 0, 1) := dk_42 (dk_at dksJ3_grow_5 14 rfl rfl)
theorem dJ3_grow_132 : decode cJ3_grow 132 = .ok (.dup, 1) := dk_89 (dk_at dksJ3_grow_5 15 rfl rfl)
theorem dJ3_grow_133 : decode cJ3_grow 133 = .ok (.getfield 24, 3) := dk_180 0 24 (dk_at dksJ3_grow_5 16 rfl rfl)
theorem dJ3_grow_136 : decode cJ3_grow 136 = .ok (.iload 6, 2) := dk_21 6 (dk_at dksJ3_grow_5 19 rfl rfl)
theorem dJ3_grow_138 : decode cJ3_grow 138 = .ok (.iadd, 1) := dk_96 (dk_at dksJ3_grow_5 21 rfl rfl)
theorem dJ3_grow_139 : decode cJ3_grow 139 = .ok (.dup_x1, 1) := dk_90 (dk_at dksJ3_grow_5 22 rfl rfl)
theorem dJ3_grow_140 : decode cJ3_grow 140 = .ok (.putfield 24, 3) := dk_181 0 24 (dk_at dksJ3_grow_6 0 rfl rfl)
theorem dJ3_grow_143 : decode cJ3_grow 143 = .ok (.istore 8, 2) := dk_54 8 (dk_at dksJ3_grow_6 3 rfl rfl)
theorem dJ3_grow_145 : decode cJ3_grow 145 = .ok (.iload 7, 2) := dk_21 7 (dk_at dksJ3_grow_6 5 rfl rfl)
theorem dJ3_grow_147 : decode cJ3_grow 147 = .ok (.iload 8, 2) := dk_21 8 (dk_at dksJ3_grow_6 7 rfl rfl)
theorem dJ3_grow_149 : decode cJ3_grow 149 = .ok (.if_icmp .ge 15, 3) := dk_162 0 15 (dk_at dksJ3_grow_6 9 rfl rfl)
theorem dJ3_grow_152 : decode cJ3_grow 152 = .ok (.aload 5, 2) := dk_25 5 (dk_at dksJ3_grow_6 12 rfl rfl)
theorem dJ3_grow_154 : decode cJ3_grow 154 = .ok (.iload 7, 2) := dk_21 7 (dk_at dksJ3_grow_6 14 rfl rfl)
theorem dJ3_grow_156 : decode cJ3_grow 156 = .ok (.aconst_null, 1) := dk_1 (dk_at dksJ3_grow_6 16 rfl rfl)
theorem dJ3_grow_157 : decode cJ3_grow 157 = .ok (.aastore, 1) := dk_83 (dk_at dksJ3_grow_6 17 rfl rfl)
theorem dJ3_grow_158 : decode cJ3_grow 158 = .ok (.iinc 7 1, 3) := dk_132 7 1 (dk_at dksJ3_grow_6 18 rfl rfl)
theorem dJ3_grow_161 : decode cJ3_grow 161 = .ok (.goto (-16), 3) := dk_167 255 240 (dk_at dksJ3_grow_6 21 rfl rfl)
theorem dJ3_grow_164 : decode cJ3_grow 164 = .ok (.return_, 1) := dk_177 (dk_at dksJ3_grow_7 0 rfl rfl)
abbrev cJ3_newCapacity : ByteArray := prog_46_method_2_code
def yJ3_newCapacity : MethodName := ⟨RJ3, "newCapacity", "(II)I"⟩
def dkwJ3_newCapacity_2 : List UInt8 := [18, 9, 100, 156, 0, 9, 29, 28, 96, 167, 0, 5, 18, 9, 172]
abbrev dktJ3_newCapacity_2 : List UInt8 := dkwJ3_newCapacity_2 ++ []
def dkwJ3_newCapacity_1 : List UInt8 := [187, 0, 33, 89, 18, 35, 183, 0, 37, 191, 18, 41, 172, 27, 28, 164, 0, 6, 21, 4, 172, 29, 28, 96]
abbrev dktJ3_newCapacity_1 : List UInt8 := dkwJ3_newCapacity_1 ++ dktJ3_newCapacity_2
def dkwJ3_newCapacity_0 : List UInt8 := [42, 180, 0, 3, 190, 62, 29, 27, 96, 89, 54, 4, 18, 9, 100, 158, 0, 21, 21, 4, 156, 0, 13]
abbrev dktJ3_newCapacity_0 : List UInt8 := dkwJ3_newCapacity_0 ++ dktJ3_newCapacity_1
theorem dksJ3_newCapacity_0 : cJ3_newCapacity.data.toList.drop 0 = dktJ3_newCapacity_0 := by decide +kernel
theorem dksJ3_newCapacity_1 : cJ3_newCapacity.data.toList.drop 23 = dktJ3_newCapacity_1 := dk_seg dksJ3_newCapacity_0 23 rfl rfl
theorem dksJ3_newCapacity_2 : cJ3_newCapacity.data.toList.drop 47 = dktJ3_newCapacity_2 := dk_seg dksJ3_newCapacity_1 24 rfl rfl
theorem dJ3_newCapacity_0 : decode cJ3_newCapacity 0 = .ok (.aload_n 0, 1) := dk_42 (dk_at dksJ3_newCapacity_0 0 rfl rfl)
theorem dJ3_newCapacity_1 : decode cJ3_newCapacity 1 = .ok (.getfield 3, 3) := dk_180 0 3 (dk_at dksJ3_newCapacity_0 1 rfl rfl)
theorem dJ3_newCapacity_4 : decode cJ3_newCapacity 4 = .ok (.arraylength, 1) := dk_190 (dk_at dksJ3_newCapacity_0 4 rfl rfl)
theorem dJ3_newCapacity_5 : decode cJ3_newCapacity 5 = .ok (.istore_n 3, 1) := dk_62 (dk_at dksJ3_newCapacity_0 5 rfl rfl)
theorem dJ3_newCapacity_6 : decode cJ3_newCapacity 6 = .ok (.iload_n 3, 1) := dk_29 (dk_at dksJ3_newCapacity_0 6 rfl rfl)
theorem dJ3_newCapacity_7 : decode cJ3_newCapacity 7 = .ok (.iload_n 1, 1) := dk_27 (dk_at dksJ3_newCapacity_0 7 rfl rfl)
theorem dJ3_newCapacity_8 : decode cJ3_newCapacity 8 = .ok (.iadd, 1) := dk_96 (dk_at dksJ3_newCapacity_0 8 rfl rfl)
theorem dJ3_newCapacity_9 : decode cJ3_newCapacity 9 = .ok (.dup, 1) := dk_89 (dk_at dksJ3_newCapacity_0 9 rfl rfl)
theorem dJ3_newCapacity_10 : decode cJ3_newCapacity 10 = .ok (.istore 4, 2) := dk_54 4 (dk_at dksJ3_newCapacity_0 10 rfl rfl)
theorem dJ3_newCapacity_12 : decode cJ3_newCapacity 12 = .ok (.ldc 9, 2) := dk_18 9 (dk_at dksJ3_newCapacity_0 12 rfl rfl)
theorem dJ3_newCapacity_14 : decode cJ3_newCapacity 14 = .ok (.isub, 1) := dk_100 (dk_at dksJ3_newCapacity_0 14 rfl rfl)
theorem dJ3_newCapacity_15 : decode cJ3_newCapacity 15 = .ok (.ifCond .le 21, 3) := dk_158 0 21 (dk_at dksJ3_newCapacity_0 15 rfl rfl)
theorem dJ3_newCapacity_18 : decode cJ3_newCapacity 18 = .ok (.iload 4, 2) := dk_21 4 (dk_at dksJ3_newCapacity_0 18 rfl rfl)
theorem dJ3_newCapacity_20 : decode cJ3_newCapacity 20 = .ok (.ifCond .ge 13, 3) := dk_156 0 13 (dk_at dksJ3_newCapacity_0 20 rfl rfl)
theorem dJ3_newCapacity_23 : decode cJ3_newCapacity 23 = .ok (.new 33, 3) := dk_187 0 33 (dk_at dksJ3_newCapacity_1 0 rfl rfl)
theorem dJ3_newCapacity_26 : decode cJ3_newCapacity 26 = .ok (.dup, 1) := dk_89 (dk_at dksJ3_newCapacity_1 3 rfl rfl)
theorem dJ3_newCapacity_27 : decode cJ3_newCapacity 27 = .ok (.ldc 35, 2) := dk_18 35 (dk_at dksJ3_newCapacity_1 4 rfl rfl)
theorem dJ3_newCapacity_29 : decode cJ3_newCapacity 29 = .ok (.invokespecial 37, 3) := dk_183 0 37 (dk_at dksJ3_newCapacity_1 6 rfl rfl)
theorem dJ3_newCapacity_32 : decode cJ3_newCapacity 32 = .ok (.athrow, 1) := dk_191 (dk_at dksJ3_newCapacity_1 9 rfl rfl)
theorem dJ3_newCapacity_33 : decode cJ3_newCapacity 33 = .ok (.ldc 41, 2) := dk_18 41 (dk_at dksJ3_newCapacity_1 10 rfl rfl)
theorem dJ3_newCapacity_35 : decode cJ3_newCapacity 35 = .ok (.ireturn, 1) := dk_172 (dk_at dksJ3_newCapacity_1 12 rfl rfl)
theorem dJ3_newCapacity_36 : decode cJ3_newCapacity 36 = .ok (.iload_n 1, 1) := dk_27 (dk_at dksJ3_newCapacity_1 13 rfl rfl)
theorem dJ3_newCapacity_37 : decode cJ3_newCapacity 37 = .ok (.iload_n 2, 1) := dk_28 (dk_at dksJ3_newCapacity_1 14 rfl rfl)
theorem dJ3_newCapacity_38 : decode cJ3_newCapacity 38 = .ok (.if_icmp .le 6, 3) := dk_164 0 6 (dk_at dksJ3_newCapacity_1 15 rfl rfl)
theorem dJ3_newCapacity_41 : decode cJ3_newCapacity 41 = .ok (.iload 4, 2) := dk_21 4 (dk_at dksJ3_newCapacity_1 18 rfl rfl)
theorem dJ3_newCapacity_43 : decode cJ3_newCapacity 43 = .ok (.ireturn, 1) := dk_172 (dk_at dksJ3_newCapacity_1 20 rfl rfl)
theorem dJ3_newCapacity_44 : decode cJ3_newCapacity 44 = .ok (.iload_n 3, 1) := dk_29 (dk_at dksJ3_newCapacity_1 21 rfl rfl)
theorem dJ3_newCapacity_45 : decode cJ3_newCapacity 45 = .ok (.iload_n 2, 1) := dk_28 (dk_at dksJ3_newCapacity_1 22 rfl rfl)
theorem dJ3_newCapacity_46 : decode cJ3_newCapacity 46 = .ok (.iadd, 1) := dk_96 (dk_at dksJ3_newCapacity_1 23 rfl rfl)
theorem dJ3_newCapacity_47 : decode cJ3_newCapacity 47 = .ok (.ldc 9, 2) := dk_18 9 (dk_at dksJ3_newCapacity_2 0 rfl rfl)
theorem dJ3_newCapacity_49 : decode cJ3_newCapacity 49 = .ok (.isub, 1) := dk_100 (dk_at dksJ3_newCapacity_2 2 rfl rfl)
theorem dJ3_newCapacity_50 : decode cJ3_newCapacity 50 = .ok (.ifCond .ge 9, 3) := dk_156 0 9 (dk_at dksJ3_newCapacity_2 3 rfl rfl)
theorem dJ3_newCapacity_53 : decode cJ3_newCapacity 53 = .ok (.iload_n 3, 1) := dk_29 (dk_at dksJ3_newCapacity_2 6 rfl rfl)
theorem dJ3_newCapacity_54 : decode cJ3_newCapacity 54 = .ok (.iload_n 2, 1) := dk_28 (dk_at dksJ3_newCapacity_2 7 rfl rfl)
theorem dJ3_newCapacity_55 : decode cJ3_newCapacity 55 = .ok (.iadd, 1) := dk_96 (dk_at dksJ3_newCapacity_2 8 rfl rfl)
theorem dJ3_newCapacity_56 : decode cJ3_newCapacity 56 = .ok (.goto 5, 3) := dk_167 0 5 (dk_at dksJ3_newCapacity_2 9 rfl rfl)
theorem dJ3_newCapacity_59 : decode cJ3_newCapacity 59 = .ok (.ldc 9, 2) := dk_18 9 (dk_at dksJ3_newCapacity_2 12 rfl rfl)
theorem dJ3_newCapacity_61 : decode cJ3_newCapacity 61 = .ok (.ireturn, 1) := dk_172 (dk_at dksJ3_newCapacity_2 14 rfl rfl)
abbrev cJ3_isEmpty : ByteArray := prog_46_method_38_code
def yJ3_isEmpty : MethodName := ⟨RJ3, "isEmpty", "()Z"⟩
def dkwJ3_isEmpty_0 : List UInt8 := [42, 180, 0, 24, 42, 180, 0, 20, 160, 0, 7, 4, 167, 0, 4, 3, 172]
abbrev dktJ3_isEmpty_0 : List UInt8 := dkwJ3_isEmpty_0 ++ []
theorem dksJ3_isEmpty_0 : cJ3_isEmpty.data.toList.drop 0 = dktJ3_isEmpty_0 := by decide +kernel
theorem dJ3_isEmpty_0 : decode cJ3_isEmpty 0 = .ok (.aload_n 0, 1) := dk_42 (dk_at dksJ3_isEmpty_0 0 rfl rfl)
theorem dJ3_isEmpty_1 : decode cJ3_isEmpty 1 = .ok (.getfield 24, 3) := dk_180 0 24 (dk_at dksJ3_isEmpty_0 1 rfl rfl)
theorem dJ3_isEmpty_4 : decode cJ3_isEmpty 4 = .ok (.aload_n 0, 1) := dk_42 (dk_at dksJ3_isEmpty_0 4 rfl rfl)
theorem dJ3_isEmpty_5 : decode cJ3_isEmpty 5 = .ok (.getfield 20, 3) := dk_180 0 20 (dk_at dksJ3_isEmpty_0 5 rfl rfl)
theorem dJ3_isEmpty_8 : decode cJ3_isEmpty 8 = .ok (.if_icmp .ne 7, 3) := dk_160 0 7 (dk_at dksJ3_isEmpty_0 8 rfl rfl)
theorem dJ3_isEmpty_11 : decode cJ3_isEmpty 11 = .ok (.iconst 1, 1) := dk_4 (dk_at dksJ3_isEmpty_0 11 rfl rfl)
theorem dJ3_isEmpty_12 : decode cJ3_isEmpty 12 = .ok (.goto 4, 3) := dk_167 0 4 (dk_at dksJ3_isEmpty_0 12 rfl rfl)
theorem dJ3_isEmpty_15 : decode cJ3_isEmpty 15 = .ok (.iconst 0, 1) := dk_3 (dk_at dksJ3_isEmpty_0 15 rfl rfl)
theorem dJ3_isEmpty_16 : decode cJ3_isEmpty 16 = .ok (.ireturn, 1) := dk_172 (dk_at dksJ3_isEmpty_0 16 rfl rfl)
abbrev cJ3_removeLast : ByteArray := prog_46_method_19_code
def yJ3_removeLast : MethodName := ⟨RJ3, "removeLast", "()Ljava/lang/Object;"⟩
def dkwJ3_removeLast_0 : List UInt8 := [42, 182, 0, 100, 76, 43, 199, 0, 11, 187, 0, 97, 89, 183, 0, 99, 191, 43, 176]
abbrev dktJ3_removeLast_0 : List UInt8 := dkwJ3_removeLast_0 ++ []
theorem dksJ3_removeLast_0 : cJ3_removeLast.data.toList.drop 0 = dktJ3_removeLast_0 := by decide +kernel
theorem dJ3_removeLast_0 : decode cJ3_removeLast 0 = .ok (.aload_n 0, 1) := dk_42 (dk_at dksJ3_removeLast_0 0 rfl rfl)
theorem dJ3_removeLast_1 : decode cJ3_removeLast 1 = .ok (.invokevirtual 100, 3) := dk_182 0 100 (dk_at dksJ3_removeLast_0 1 rfl rfl)
theorem dJ3_removeLast_4 : decode cJ3_removeLast 4 = .ok (.astore_n 1, 1) := dk_76 (dk_at dksJ3_removeLast_0 4 rfl rfl)
theorem dJ3_removeLast_5 : decode cJ3_removeLast 5 = .ok (.aload_n 1, 1) := dk_43 (dk_at dksJ3_removeLast_0 5 rfl rfl)
theorem dJ3_removeLast_6 : decode cJ3_removeLast 6 = .ok (.ifnonnull 11, 3) := dk_199 0 11 (dk_at dksJ3_removeLast_0 6 rfl rfl)
theorem dJ3_removeLast_9 : decode cJ3_removeLast 9 = .ok (.new 97, 3) := dk_187 0 97 (dk_at dksJ3_removeLast_0 9 rfl rfl)
theorem dJ3_removeLast_12 : decode cJ3_removeLast 12 = .ok (.dup, 1) := dk_89 (dk_at dksJ3_removeLast_0 12 rfl rfl)
theorem dJ3_removeLast_13 : decode cJ3_removeLast 13 = .ok (.invokespecial 99, 3) := dk_183 0 99 (dk_at dksJ3_removeLast_0 13 rfl rfl)
theorem dJ3_removeLast_16 : decode cJ3_removeLast 16 = .ok (.athrow, 1) := dk_191 (dk_at dksJ3_removeLast_0 16 rfl rfl)
theorem dJ3_removeLast_17 : decode cJ3_removeLast 17 = .ok (.aload_n 1, 1) := dk_43 (dk_at dksJ3_removeLast_0 17 rfl rfl)
theorem dJ3_removeLast_18 : decode cJ3_removeLast 18 = .ok (.areturn, 1) := dk_176 (dk_at dksJ3_removeLast_0 18 rfl rfl)
abbrev cJ3_pollLast : ByteArray := prog_46_method_21_code
def yJ3_pollLast : MethodName := ⟨RJ3, "pollLast", "()Ljava/lang/Object;"⟩
def dkwJ3_pollLast_1 : List UInt8 := [198, 0, 12, 43, 42, 28, 90, 181, 0, 20, 1, 83, 45, 176]
abbrev dktJ3_pollLast_1 : List UInt8 := dkwJ3_pollLast_1 ++ []
def dkwJ3_pollLast_0 : List UInt8 := [42, 180, 0, 3, 89, 76, 42, 180, 0, 20, 43, 190, 184, 0, 68, 89, 61, 184, 0, 103, 78, 45]
abbrev dktJ3_pollLast_0 : List UInt8 := dkwJ3_pollLast_0 ++ dktJ3_pollLast_1
theorem dksJ3_pollLast_0 : cJ3_pollLast.data.toList.drop 0 = dktJ3_pollLast_0 := by decide +kernel
theorem dksJ3_pollLast_1 : cJ3_pollLast.data.toList.drop 22 = dktJ3_pollLast_1 := dk_seg dksJ3_pollLast_0 22 rfl rfl
theorem dJ3_pollLast_0 : decode cJ3_pollLast 0 = .ok (.aload_n 0, 1) := dk_42 (dk_at dksJ3_pollLast_0 0 rfl rfl)
theorem dJ3_pollLast_1 : decode cJ3_pollLast 1 = .ok (.getfield 3, 3) := dk_180 0 3 (dk_at dksJ3_pollLast_0 1 rfl rfl)
theorem dJ3_pollLast_4 : decode cJ3_pollLast 4 = .ok (.dup, 1) := dk_89 (dk_at dksJ3_pollLast_0 4 rfl rfl)
theorem dJ3_pollLast_5 : decode cJ3_pollLast 5 = .ok (.astore_n 1, 1) := dk_76 (dk_at dksJ3_pollLast_0 5 rfl rfl)
theorem dJ3_pollLast_6 : decode cJ3_pollLast 6 = .ok (.aload_n 0, 1) := dk_42 (dk_at dksJ3_pollLast_0 6 rfl rfl)
theorem dJ3_pollLast_7 : decode cJ3_pollLast 7 = .ok (.getfield 20, 3) := dk_180 0 20 (dk_at dksJ3_pollLast_0 7 rfl rfl)
theorem dJ3_pollLast_10 : decode cJ3_pollLast 10 = .ok (.aload_n 1, 1) := dk_43 (dk_at dksJ3_pollLast_0 10 rfl rfl)
theorem dJ3_pollLast_11 : decode cJ3_pollLast 11 = .ok (.arraylength, 1) := dk_190 (dk_at dksJ3_pollLast_0 11 rfl rfl)
theorem dJ3_pollLast_12 : decode cJ3_pollLast 12 = .ok (.invokestatic 68, 3) := dk_184 0 68 (dk_at dksJ3_pollLast_0 12 rfl rfl)
theorem dJ3_pollLast_15 : decode cJ3_pollLast 15 = .ok (.dup, 1) := dk_89 (dk_at dksJ3_pollLast_0 15 rfl rfl)
theorem dJ3_pollLast_16 : decode cJ3_pollLast 16 = .ok (.istore_n 2, 1) := dk_61 (dk_at dksJ3_pollLast_0 16 rfl rfl)
theorem dJ3_pollLast_17 : decode cJ3_pollLast 17 = .ok (.invokestatic 103, 3) := dk_184 0 103 (dk_at dksJ3_pollLast_0 17 rfl rfl)
theorem dJ3_pollLast_20 : decode cJ3_pollLast 20 = .ok (.astore_n 3, 1) := dk_78 (dk_at dksJ3_pollLast_0 20 rfl rfl)
theorem dJ3_pollLast_21 : decode cJ3_pollLast 21 = .ok (.aload_n 3, 1) := dk_45 (dk_at dksJ3_pollLast_0 21 rfl rfl)
theorem dJ3_pollLast_22 : decode cJ3_pollLast 22 = .ok (.ifnull 12, 3) := dk_198 0 12 (dk_at dksJ3_pollLast_1 0 rfl rfl)
theorem dJ3_pollLast_25 : decode cJ3_pollLast 25 = .ok (.aload_n 1, 1) := dk_43 (dk_at dksJ3_pollLast_1 3 rfl rfl)
theorem dJ3_pollLast_26 : decode cJ3_pollLast 26 = .ok (.aload_n 0, 1) := dk_42 (dk_at dksJ3_pollLast_1 4 rfl rfl)
theorem dJ3_pollLast_27 : decode cJ3_pollLast 27 = .ok (.iload_n 2, 1) := dk_28 (dk_at dksJ3_pollLast_1 5 rfl rfl)
theorem dJ3_pollLast_28 : decode cJ3_pollLast 28 = .ok (.dup_x1, 1) := dk_90 (dk_at dksJ3_pollLast_1 6 rfl rfl)
theorem dJ3_pollLast_29 : decode cJ3_pollLast 29 = .ok (.putfield 20, 3) := dk_181 0 20 (dk_at dksJ3_pollLast_1 7 rfl rfl)
theorem dJ3_pollLast_32 : decode cJ3_pollLast 32 = .ok (.aconst_null, 1) := dk_1 (dk_at dksJ3_pollLast_1 10 rfl rfl)
theorem dJ3_pollLast_33 : decode cJ3_pollLast 33 = .ok (.aastore, 1) := dk_83 (dk_at dksJ3_pollLast_1 11 rfl rfl)
theorem dJ3_pollLast_34 : decode cJ3_pollLast 34 = .ok (.aload_n 3, 1) := dk_45 (dk_at dksJ3_pollLast_1 12 rfl rfl)
theorem dJ3_pollLast_35 : decode cJ3_pollLast 35 = .ok (.areturn, 1) := dk_176 (dk_at dksJ3_pollLast_1 13 rfl rfl)
abbrev cJ3_dec : ByteArray := prog_46_method_7_code
def yJ3_dec : MethodName := ⟨RJ3, "dec", "(II)I"⟩
def dkwJ3_dec_0 : List UInt8 := [132, 0, 255, 26, 156, 0, 7, 27, 4, 100, 59, 26, 172]
abbrev dktJ3_dec_0 : List UInt8 := dkwJ3_dec_0 ++ []
theorem dksJ3_dec_0 : cJ3_dec.data.toList.drop 0 = dktJ3_dec_0 := by decide +kernel
theorem dJ3_dec_0 : decode cJ3_dec 0 = .ok (.iinc 0 (-1), 3) := dk_132 0 255 (dk_at dksJ3_dec_0 0 rfl rfl)
theorem dJ3_dec_3 : decode cJ3_dec 3 = .ok (.iload_n 0, 1) := dk_26 (dk_at dksJ3_dec_0 3 rfl rfl)
theorem dJ3_dec_4 : decode cJ3_dec 4 = .ok (.ifCond .ge 7, 3) := dk_156 0 7 (dk_at dksJ3_dec_0 4 rfl rfl)
theorem dJ3_dec_7 : decode cJ3_dec 7 = .ok (.iload_n 1, 1) := dk_27 (dk_at dksJ3_dec_0 7 rfl rfl)
theorem dJ3_dec_8 : decode cJ3_dec 8 = .ok (.iconst 1, 1) := dk_4 (dk_at dksJ3_dec_0 8 rfl rfl)
theorem dJ3_dec_9 : decode cJ3_dec 9 = .ok (.isub, 1) := dk_100 (dk_at dksJ3_dec_0 9 rfl rfl)
theorem dJ3_dec_10 : decode cJ3_dec 10 = .ok (.istore_n 0, 1) := dk_59 (dk_at dksJ3_dec_0 10 rfl rfl)
theorem dJ3_dec_11 : decode cJ3_dec 11 = .ok (.iload_n 0, 1) := dk_26 (dk_at dksJ3_dec_0 11 rfl rfl)
theorem dJ3_dec_12 : decode cJ3_dec 12 = .ok (.ireturn, 1) := dk_172 (dk_at dksJ3_dec_0 12 rfl rfl)
theorem q138 : (Jvm.Cond.initialized "java/util/ArrayDeque") ∈ lw_all := lw_g (lw_at lw_m1 7 rfl) rfl
theorem q283 : (Jvm.Cond.instantiable "java/util/ArrayDeque" (3 : Nat)) ∈ lw_all := lw_g (lw_at lw_m1 152 rfl) rfl
theorem q285 : (Jvm.Cond.instanceMethod ({ cls := "java/util/ArrayDeque", name := "<init>", desc := "()V" } : Jvm.MethodName)) ∈ lw_all := lw_g (lw_at lw_m1 154 rfl) rfl
theorem q286 : (Jvm.Cond.code ({ cls := "java/util/ArrayDeque", name := "<init>", desc := "()V" } : Jvm.MethodName) prog_46_method_3_code (1 : Nat) (Option.none : Option Jvm.ClassFile.FieldType)) ∈ lw_all := lw_g (lw_at lw_m1 155 rfl) rfl
theorem q287 : (Jvm.Cond.methodLink "java/util/ArrayDeque" (42 : Nat) ({ cls := "java/util/AbstractCollection", name := "<init>", desc := "()V" } : Jvm.MethodName)) ∈ lw_all := lw_g (lw_at lw_m1 156 rfl) rfl
theorem q288 : (Jvm.Cond.classLink "java/util/ArrayDeque" (47 : Nat) "java/lang/Object") ∈ lw_all := lw_g (lw_at lw_m1 157 rfl) rfl
theorem q290 : (Jvm.Cond.fieldLink "java/util/ArrayDeque" (3 : Nat) "java/util/ArrayDeque" "elements" "[Ljava/lang/Object;") ∈ lw_all := lw_g (lw_at lw_m1 159 rfl) rfl
theorem q291 : (Jvm.Cond.fieldLink "java/util/ArrayDeque" (24 : Nat) "java/util/ArrayDeque" "head" "I") ∈ lw_all := lw_g (lw_at lw_m1 160 rfl) rfl
theorem q292 : (Jvm.Cond.fieldLink "java/util/ArrayDeque" (20 : Nat) "java/util/ArrayDeque" "tail" "I") ∈ lw_all := lw_g (lw_at lw_m1 161 rfl) rfl
theorem q293 : (Jvm.Cond.lays "java/util/ArrayDeque" "java/util/ArrayDeque" "elements" "[Ljava/lang/Object;") ∈ lw_all := lw_g (lw_at lw_m1 162 rfl) rfl
theorem q294 : (Jvm.Cond.soleField "java/util/ArrayDeque" "elements") ∈ lw_all := lw_g (lw_at lw_m1 163 rfl) rfl
theorem q295 : (Jvm.Cond.lays "java/util/ArrayDeque" "java/util/ArrayDeque" "head" "I") ∈ lw_all := lw_g (lw_at lw_m1 164 rfl) rfl
theorem q296 : (Jvm.Cond.soleField "java/util/ArrayDeque" "head") ∈ lw_all := lw_g (lw_at lw_m1 165 rfl) rfl
theorem q297 : (Jvm.Cond.lays "java/util/ArrayDeque" "java/util/ArrayDeque" "tail" "I") ∈ lw_all := lw_g (lw_at lw_m1 166 rfl) rfl
theorem q298 : (Jvm.Cond.soleField "java/util/ArrayDeque" "tail") ∈ lw_all := lw_g (lw_at lw_m1 167 rfl) rfl
theorem q299 : (Jvm.Cond.superclass "java/util/ArrayDeque" "java/util/AbstractCollection") ∈ lw_all := lw_g (lw_at lw_m1 168 rfl) rfl
theorem q682 : (Jvm.Cond.selects "java/util/ArrayDeque" ({ cls := "java/util/AbstractCollection", name := "size", desc := "()I" } : Jvm.MethodName) ({ cls := "java/util/ArrayDeque", name := "size", desc := "()I" } : Jvm.MethodName)) ∈ lw_all := lw_g (lw_at lw_m3 71 rfl) rfl
theorem q683 : (Jvm.Cond.instanceMethod ({ cls := "java/util/ArrayDeque", name := "size", desc := "()I" } : Jvm.MethodName)) ∈ lw_all := lw_g (lw_at lw_m3 72 rfl) rfl
theorem q684 : (Jvm.Cond.code ({ cls := "java/util/ArrayDeque", name := "size", desc := "()I" } : Jvm.MethodName) prog_46_method_37_code (1 : Nat) (Option.some Jvm.ClassFile.FieldType.int)) ∈ lw_all := lw_g (lw_at lw_m3 73 rfl) rfl
theorem q685 : (Jvm.Cond.methodLink "java/util/ArrayDeque" (127 : Nat) ({ cls := "java/util/ArrayDeque", name := "sub", desc := "(III)I" } : Jvm.MethodName)) ∈ lw_all := lw_g (lw_at lw_m3 74 rfl) rfl
theorem q686 : (Jvm.Cond.static ({ cls := "java/util/ArrayDeque", name := "sub", desc := "(III)I" } : Jvm.MethodName)) ∈ lw_all := lw_g (lw_at lw_m3 75 rfl) rfl
theorem q687 : (Jvm.Cond.code ({ cls := "java/util/ArrayDeque", name := "sub", desc := "(III)I" } : Jvm.MethodName) prog_46_method_9_code (3 : Nat) (Option.some Jvm.ClassFile.FieldType.int)) ∈ lw_all := lw_g (lw_at lw_m3 76 rfl) rfl
theorem q835 : (Jvm.Cond.selects "java/util/ArrayDeque" ({ cls := "java/lang/Object", name := "getClass", desc := "()Ljava/lang/Class;" } : Jvm.MethodName) ({ cls := "java/lang/Object", name := "getClass", desc := "()Ljava/lang/Class;" } : Jvm.MethodName)) ∈ lw_all := lw_g (lw_at lw_m3 224 rfl) rfl
theorem q1023 : (Jvm.Cond.instanceMethod ({ cls := "java/util/ArrayDeque", name := "removeFirst", desc := "()Ljava/lang/Object;" } : Jvm.MethodName)) ∈ lw_all := lw_g (lw_at lw_m4 172 rfl) rfl
theorem q1024 : (Jvm.Cond.selects "java/util/ArrayDeque" ({ cls := "java/util/ArrayDeque", name := "removeFirst", desc := "()Ljava/lang/Object;" } : Jvm.MethodName) ({ cls := "java/util/ArrayDeque", name := "removeFirst", desc := "()Ljava/lang/Object;" } : Jvm.MethodName)) ∈ lw_all := lw_g (lw_at lw_m4 173 rfl) rfl
theorem q1025 : (Jvm.Cond.code ({ cls := "java/util/ArrayDeque", name := "removeFirst", desc := "()Ljava/lang/Object;" } : Jvm.MethodName) prog_46_method_18_code (2 : Nat) (Option.some (Jvm.ClassFile.FieldType.object "java/lang/Object"))) ∈ lw_all := lw_g (lw_at lw_m4 174 rfl) rfl
theorem q1026 : (Jvm.Cond.methodLink "java/util/ArrayDeque" (93 : Nat) ({ cls := "java/util/ArrayDeque", name := "pollFirst", desc := "()Ljava/lang/Object;" } : Jvm.MethodName)) ∈ lw_all := lw_g (lw_at lw_m4 175 rfl) rfl
theorem q1027 : (Jvm.Cond.instanceMethod ({ cls := "java/util/ArrayDeque", name := "pollFirst", desc := "()Ljava/lang/Object;" } : Jvm.MethodName)) ∈ lw_all := lw_g (lw_at lw_m4 176 rfl) rfl
theorem q1028 : (Jvm.Cond.selects "java/util/ArrayDeque" ({ cls := "java/util/ArrayDeque", name := "pollFirst", desc := "()Ljava/lang/Object;" } : Jvm.MethodName) ({ cls := "java/util/ArrayDeque", name := "pollFirst", desc := "()Ljava/lang/Object;" } : Jvm.MethodName)) ∈ lw_all := lw_g (lw_at lw_m4 177 rfl) rfl
theorem q1029 : (Jvm.Cond.code ({ cls := "java/util/ArrayDeque", name := "pollFirst", desc := "()Ljava/lang/Object;" } : Jvm.MethodName) prog_46_method_20_code (4 : Nat) (Option.some (Jvm.ClassFile.FieldType.object "java/lang/Object"))) ∈ lw_all := lw_g (lw_at lw_m4 178 rfl) rfl
theorem q1030 : (Jvm.Cond.methodLink "java/util/ArrayDeque" (103 : Nat) ({ cls := "java/util/ArrayDeque", name := "elementAt", desc := "([Ljava/lang/Object;I)Ljava/lang/Object;" } : Jvm.MethodName)) ∈ lw_all := lw_g (lw_at lw_m4 179 rfl) rfl
theorem q1031 : (Jvm.Cond.static ({ cls := "java/util/ArrayDeque", name := "elementAt", desc := "([Ljava/lang/Object;I)Ljava/lang/Object;" } : Jvm.MethodName)) ∈ lw_all := lw_g (lw_at lw_m4 180 rfl) rfl
theorem q1032 : (Jvm.Cond.code ({ cls := "java/util/ArrayDeque", name := "elementAt", desc := "([Ljava/lang/Object;I)Ljava/lang/Object;" } : Jvm.MethodName) prog_46_method_10_code (2 : Nat) (Option.some (Jvm.ClassFile.FieldType.object "java/lang/Object"))) ∈ lw_all := lw_g (lw_at lw_m4 181 rfl) rfl
theorem q1033 : (Jvm.Cond.methodLink "java/util/ArrayDeque" (74 : Nat) ({ cls := "java/util/ArrayDeque", name := "inc", desc := "(II)I" } : Jvm.MethodName)) ∈ lw_all := lw_g (lw_at lw_m4 182 rfl) rfl
theorem q1034 : (Jvm.Cond.static ({ cls := "java/util/ArrayDeque", name := "inc", desc := "(II)I" } : Jvm.MethodName)) ∈ lw_all := lw_g (lw_at lw_m4 183 rfl) rfl
theorem q1035 : (Jvm.Cond.code ({ cls := "java/util/ArrayDeque", name := "inc", desc := "(II)I" } : Jvm.MethodName) prog_46_method_6_code (2 : Nat) (Option.some Jvm.ClassFile.FieldType.int)) ∈ lw_all := lw_g (lw_at lw_m4 184 rfl) rfl
theorem q1042 : (Jvm.Cond.instanceMethod ({ cls := "java/util/ArrayDeque", name := "addLast", desc := "(Ljava/lang/Object;)V" } : Jvm.MethodName)) ∈ lw_all := lw_g (lw_at lw_m4 191 rfl) rfl
theorem q1043 : (Jvm.Cond.selects "java/util/ArrayDeque" ({ cls := "java/util/ArrayDeque", name := "addLast", desc := "(Ljava/lang/Object;)V" } : Jvm.MethodName) ({ cls := "java/util/ArrayDeque", name := "addLast", desc := "(Ljava/lang/Object;)V" } : Jvm.MethodName)) ∈ lw_all := lw_g (lw_at lw_m4 192 rfl) rfl
theorem q1044 : (Jvm.Cond.code ({ cls := "java/util/ArrayDeque", name := "addLast", desc := "(Ljava/lang/Object;)V" } : Jvm.MethodName) prog_46_method_13_code (3 : Nat) (Option.none : Option Jvm.ClassFile.FieldType)) ∈ lw_all := lw_g (lw_at lw_m4 193 rfl) rfl
theorem q1045 : (Jvm.Cond.methodLink "java/util/ArrayDeque" (71 : Nat) ({ cls := "java/util/ArrayDeque", name := "grow", desc := "(I)V" } : Jvm.MethodName)) ∈ lw_all := lw_g (lw_at lw_m4 194 rfl) rfl
theorem q1046 : (Jvm.Cond.privateMethod ({ cls := "java/util/ArrayDeque", name := "grow", desc := "(I)V" } : Jvm.MethodName)) ∈ lw_tbl := lw_at lw_m4 195 rfl
theorem q1047 : (Jvm.Cond.instanceMethod ({ cls := "java/util/ArrayDeque", name := "grow", desc := "(I)V" } : Jvm.MethodName)) ∈ lw_all := lw_g (lw_at lw_m4 196 rfl) rfl
theorem q1048 : (Jvm.Cond.code ({ cls := "java/util/ArrayDeque", name := "grow", desc := "(I)V" } : Jvm.MethodName) prog_46_method_1_code (9 : Nat) (Option.none : Option Jvm.ClassFile.FieldType)) ∈ lw_all := lw_g (lw_at lw_m4 197 rfl) rfl
theorem q1049 : (Jvm.Cond.constant "java/util/ArrayDeque" (9 : Nat) (2147483639 : Int32)) ∈ lw_all := lw_g (lw_at lw_m4 198 rfl) rfl
theorem q1050 : (Jvm.Cond.methodLink "java/util/ArrayDeque" (10 : Nat) ({ cls := "java/util/ArrayDeque", name := "newCapacity", desc := "(II)I" } : Jvm.MethodName)) ∈ lw_all := lw_g (lw_at lw_m4 199 rfl) rfl
theorem q1051 : (Jvm.Cond.privateMethod ({ cls := "java/util/ArrayDeque", name := "newCapacity", desc := "(II)I" } : Jvm.MethodName)) ∈ lw_tbl := lw_at lw_m4 200 rfl
theorem q1052 : (Jvm.Cond.instanceMethod ({ cls := "java/util/ArrayDeque", name := "newCapacity", desc := "(II)I" } : Jvm.MethodName)) ∈ lw_all := lw_g (lw_at lw_m4 201 rfl) rfl
theorem q1053 : (Jvm.Cond.code ({ cls := "java/util/ArrayDeque", name := "newCapacity", desc := "(II)I" } : Jvm.MethodName) prog_46_method_2_code (5 : Nat) (Option.some Jvm.ClassFile.FieldType.int)) ∈ lw_all := lw_g (lw_at lw_m4 202 rfl) rfl
theorem q1054 : (Jvm.Cond.constant "java/util/ArrayDeque" (41 : Nat) (2147483647 : Int32)) ∈ lw_all := lw_g (lw_at lw_m4 203 rfl) rfl
theorem q1055 : (Jvm.Cond.methodLink "java/util/ArrayDeque" (14 : Nat) ({ cls := "java/util/Arrays", name := "copyOf", desc := "([Ljava/lang/Object;I)[Ljava/lang/Object;" } : Jvm.MethodName)) ∈ lw_all := lw_g (lw_at lw_m4 204 rfl) rfl
theorem q1056 : (Jvm.Cond.methodLink "java/util/ArrayDeque" (27 : Nat) ({ cls := "java/lang/System", name := "arraycopy", desc := "(Ljava/lang/Object;ILjava/lang/Object;II)V" } : Jvm.MethodName)) ∈ lw_all := lw_g (lw_at lw_m4 205 rfl) rfl
theorem q2321 : (Jvm.Cond.instanceMethod ({ cls := "java/util/ArrayDeque", name := "isEmpty", desc := "()Z" } : Jvm.MethodName)) ∈ lw_all := lw_g (lw_at lw_m10 30 rfl) rfl
theorem q2322 : (Jvm.Cond.selects "java/util/ArrayDeque" ({ cls := "java/util/ArrayDeque", name := "isEmpty", desc := "()Z" } : Jvm.MethodName) ({ cls := "java/util/ArrayDeque", name := "isEmpty", desc := "()Z" } : Jvm.MethodName)) ∈ lw_all := lw_g (lw_at lw_m10 31 rfl) rfl
theorem q2323 : (Jvm.Cond.code ({ cls := "java/util/ArrayDeque", name := "isEmpty", desc := "()Z" } : Jvm.MethodName) prog_46_method_38_code (1 : Nat) (Option.some Jvm.ClassFile.FieldType.boolean)) ∈ lw_all := lw_g (lw_at lw_m10 32 rfl) rfl
theorem q2325 : (Jvm.Cond.instanceMethod ({ cls := "java/util/ArrayDeque", name := "removeLast", desc := "()Ljava/lang/Object;" } : Jvm.MethodName)) ∈ lw_all := lw_g (lw_at lw_m10 34 rfl) rfl
theorem q2326 : (Jvm.Cond.selects "java/util/ArrayDeque" ({ cls := "java/util/ArrayDeque", name := "removeLast", desc := "()Ljava/lang/Object;" } : Jvm.MethodName) ({ cls := "java/util/ArrayDeque", name := "removeLast", desc := "()Ljava/lang/Object;" } : Jvm.MethodName)) ∈ lw_all := lw_g (lw_at lw_m10 35 rfl) rfl
theorem q2327 : (Jvm.Cond.code ({ cls := "java/util/ArrayDeque", name := "removeLast", desc := "()Ljava/lang/Object;" } : Jvm.MethodName) prog_46_method_19_code (2 : Nat) (Option.some (Jvm.ClassFile.FieldType.object "java/lang/Object"))) ∈ lw_all := lw_g (lw_at lw_m10 36 rfl) rfl
theorem q2328 : (Jvm.Cond.methodLink "java/util/ArrayDeque" (100 : Nat) ({ cls := "java/util/ArrayDeque", name := "pollLast", desc := "()Ljava/lang/Object;" } : Jvm.MethodName)) ∈ lw_all := lw_g (lw_at lw_m10 37 rfl) rfl
theorem q2329 : (Jvm.Cond.instanceMethod ({ cls := "java/util/ArrayDeque", name := "pollLast", desc := "()Ljava/lang/Object;" } : Jvm.MethodName)) ∈ lw_all := lw_g (lw_at lw_m10 38 rfl) rfl
theorem q2330 : (Jvm.Cond.selects "java/util/ArrayDeque" ({ cls := "java/util/ArrayDeque", name := "pollLast", desc := "()Ljava/lang/Object;" } : Jvm.MethodName) ({ cls := "java/util/ArrayDeque", name := "pollLast", desc := "()Ljava/lang/Object;" } : Jvm.MethodName)) ∈ lw_all := lw_g (lw_at lw_m10 39 rfl) rfl
theorem q2331 : (Jvm.Cond.code ({ cls := "java/util/ArrayDeque", name := "pollLast", desc := "()Ljava/lang/Object;" } : Jvm.MethodName) prog_46_method_21_code (4 : Nat) (Option.some (Jvm.ClassFile.FieldType.object "java/lang/Object"))) ∈ lw_all := lw_g (lw_at lw_m10 40 rfl) rfl
theorem q2332 : (Jvm.Cond.methodLink "java/util/ArrayDeque" (68 : Nat) ({ cls := "java/util/ArrayDeque", name := "dec", desc := "(II)I" } : Jvm.MethodName)) ∈ lw_all := lw_g (lw_at lw_m10 41 rfl) rfl
theorem q2333 : (Jvm.Cond.static ({ cls := "java/util/ArrayDeque", name := "dec", desc := "(II)I" } : Jvm.MethodName)) ∈ lw_all := lw_g (lw_at lw_m10 42 rfl) rfl
theorem q2334 : (Jvm.Cond.code ({ cls := "java/util/ArrayDeque", name := "dec", desc := "(II)I" } : Jvm.MethodName) prog_46_method_7_code (2 : Nat) (Option.some Jvm.ClassFile.FieldType.int)) ∈ lw_all := lw_g (lw_at lw_m10 43 rfl) rfl
theorem q2977 : (Jvm.Cond.selects "java/util/ArrayDeque" ({ cls := "java/util/ArrayDeque", name := "size", desc := "()I" } : Jvm.MethodName) ({ cls := "java/util/ArrayDeque", name := "size", desc := "()I" } : Jvm.MethodName)) ∈ lw_all := lw_g (lw_at lw_m12 206 rfl) rfl
theorem q3002 : (Jvm.Cond.castable "java/util/ArrayDeque" "java/lang/Object") ∈ lw_tbl := lw_at lw_m12 231 rfl
theorem in_J3 : ∀ w ∈ wsJ30, w ∈ lw_all := lw_in wsJ30 [293, 295, 297] (by decide +kernel) (by decide +kernel)
/-! java/lang/IllegalStateException -/
set_option maxRecDepth 100000
def RJ30 : String := "java/lang/IllegalStateException"
def TJ30 : u_T := fun k => match k with
  | 0 => ("java/lang/Throwable", "cause", "Ljava/lang/Throwable;", false)
  | 1 => ("java/lang/Throwable", "stackTrace", "[Ljava/lang/StackTraceElement;", false)
  | 2 => ("java/lang/Throwable", "suppressedExceptions", "Ljava/util/List;", false)
  | 3 => ("java/lang/Throwable", "detailMessage", "Ljava/lang/String;", false)
  | 4 => ("java/lang/Throwable", "backtrace", "Ljava/lang/Object;", false)
  | _ => ("java/lang/Throwable", "depth", "I", false)
def tyJ30 : Nat → FieldType := fun k => match k with
  | 0 => .object "java/lang/Throwable"
  | 1 => .array (.object "java/lang/StackTraceElement")
  | 2 => .object "java/util/List"
  | 3 => .object "java/lang/String"
  | 4 => .object "java/lang/Object"
  | _ => .int
abbrev wsJ300 : List Cond := u_ws RJ30 TJ30 6
theorem nmJ30 : ∀ a, a < 6 → ∀ b, b < 6 → a ≠ b → (TJ30 a).2.1 ≠ (TJ30 b).2.1 := by decide +kernel
theorem tyJ30_ok : ∀ k, k < 6 → parseFieldDescriptor (TJ30 k).2.2.1 = some (tyJ30 k) := by decide +kernel
abbrev cJ30_init : ByteArray := prog_26_method_1_code
def yJ30_init : MethodName := ⟨RJ30, "<init>", "()V"⟩
theorem dJ30_init_0 : decode cJ30_init 0 = .ok (.aload_n 0, 1) := by decide +kernel
theorem dJ30_init_1 : decode cJ30_init 1 = .ok (.invokespecial 1, 3) := by decide +kernel
theorem dJ30_init_4 : decode cJ30_init 4 = .ok (.return_, 1) := by decide +kernel
theorem q173 : (Jvm.Cond.initialized "java/lang/IllegalStateException") ∈ lw_all := lw_g (lw_at lw_m1 42 rfl) rfl
theorem q515 : (Jvm.Cond.selects "java/lang/IllegalStateException" ({ cls := "java/lang/Throwable", name := "fillInStackTrace", desc := "()Ljava/lang/Throwable;" } : Jvm.MethodName) ({ cls := "java/lang/Throwable", name := "fillInStackTrace", desc := "()Ljava/lang/Throwable;" } : Jvm.MethodName)) ∈ lw_all := lw_g (lw_at lw_m2 144 rfl) rfl
theorem q831 : (Jvm.Cond.selects "java/lang/IllegalStateException" ({ cls := "java/lang/Object", name := "getClass", desc := "()Ljava/lang/Class;" } : Jvm.MethodName) ({ cls := "java/lang/Object", name := "getClass", desc := "()Ljava/lang/Class;" } : Jvm.MethodName)) ∈ lw_all := lw_g (lw_at lw_m3 220 rfl) rfl
theorem q1398 : (Jvm.Cond.selects "java/lang/IllegalStateException" ({ cls := "java/lang/Throwable", name := "toString", desc := "()Ljava/lang/String;" } : Jvm.MethodName) ({ cls := "java/lang/Throwable", name := "toString", desc := "()Ljava/lang/String;" } : Jvm.MethodName)) ∈ lw_all := lw_g (lw_at lw_m6 67 rfl) rfl
theorem q1408 : (Jvm.Cond.selects "java/lang/IllegalStateException" ({ cls := "java/lang/Throwable", name := "getLocalizedMessage", desc := "()Ljava/lang/String;" } : Jvm.MethodName) ({ cls := "java/lang/Throwable", name := "getLocalizedMessage", desc := "()Ljava/lang/String;" } : Jvm.MethodName)) ∈ lw_all := lw_g (lw_at lw_m6 77 rfl) rfl
theorem q1417 : (Jvm.Cond.selects "java/lang/IllegalStateException" ({ cls := "java/lang/Throwable", name := "getMessage", desc := "()Ljava/lang/String;" } : Jvm.MethodName) ({ cls := "java/lang/Throwable", name := "getMessage", desc := "()Ljava/lang/String;" } : Jvm.MethodName)) ∈ lw_all := lw_g (lw_at lw_m6 86 rfl) rfl
theorem q1640 : (Jvm.Cond.instantiable "java/lang/IllegalStateException" (6 : Nat)) ∈ lw_all := lw_g (lw_at lw_m7 69 rfl) rfl
theorem q1641 : (Jvm.Cond.castable "java/lang/IllegalStateException" "java/lang/IllegalStateException") ∈ lw_tbl := lw_at lw_m7 70 rfl
theorem q1642 : (Jvm.Cond.selects "java/lang/IllegalStateException" ({ cls := "java/lang/Throwable", name := "fillInStackTrace", desc := "(I)Ljava/lang/Throwable;" } : Jvm.MethodName) ({ cls := "java/lang/Throwable", name := "fillInStackTrace", desc := "(I)Ljava/lang/Throwable;" } : Jvm.MethodName)) ∈ lw_all := lw_g (lw_at lw_m7 71 rfl) rfl
theorem q1643 : (Jvm.Cond.lays "java/lang/IllegalStateException" "java/lang/Throwable" "cause" "Ljava/lang/Throwable;") ∈ lw_all := lw_g (lw_at lw_m7 72 rfl) rfl
theorem q1644 : (Jvm.Cond.lays "java/lang/IllegalStateException" "java/lang/Throwable" "stackTrace" "[Ljava/lang/StackTraceElement;") ∈ lw_all := lw_g (lw_at lw_m7 73 rfl) rfl
theorem q1645 : (Jvm.Cond.lays "java/lang/IllegalStateException" "java/lang/Throwable" "suppressedExceptions" "Ljava/util/List;") ∈ lw_all := lw_g (lw_at lw_m7 74 rfl) rfl
theorem q1646 : (Jvm.Cond.lays "java/lang/IllegalStateException" "java/lang/Throwable" "detailMessage" "Ljava/lang/String;") ∈ lw_all := lw_g (lw_at lw_m7 75 rfl) rfl
theorem q1647 : (Jvm.Cond.lays "java/lang/IllegalStateException" "java/lang/Throwable" "backtrace" "Ljava/lang/Object;") ∈ lw_all := lw_g (lw_at lw_m7 76 rfl) rfl
theorem q1649 : (Jvm.Cond.instanceMethod ({ cls := "java/lang/IllegalStateException", name := "<init>", desc := "()V" } : Jvm.MethodName)) ∈ lw_all := lw_g (lw_at lw_m7 78 rfl) rfl
theorem q1650 : (Jvm.Cond.code ({ cls := "java/lang/IllegalStateException", name := "<init>", desc := "()V" } : Jvm.MethodName) prog_26_method_1_code (1 : Nat) (Option.none : Option Jvm.ClassFile.FieldType)) ∈ lw_all := lw_g (lw_at lw_m7 79 rfl) rfl
theorem q1651 : (Jvm.Cond.methodLink "java/lang/IllegalStateException" (1 : Nat) ({ cls := "java/lang/RuntimeException", name := "<init>", desc := "()V" } : Jvm.MethodName)) ∈ lw_all := lw_g (lw_at lw_m7 80 rfl) rfl
theorem q1652 : (Jvm.Cond.lays "java/lang/IllegalStateException" "java/lang/Throwable" "depth" "I") ∈ lw_all := lw_g (lw_at lw_m7 81 rfl) rfl
theorem q1653 : (Jvm.Cond.superclass "java/lang/IllegalStateException" "java/lang/RuntimeException") ∈ lw_all := lw_g (lw_at lw_m7 82 rfl) rfl
theorem q3018 : (Jvm.Cond.castable "java/lang/IllegalStateException" "java/lang/Object") ∈ lw_tbl := lw_at lw_m13 7 rfl
theorem in_J30 : ∀ w ∈ wsJ300, w ∈ lw_all := lw_in wsJ300 [1643, 1644, 1645, 1646, 1647, 1652] (by decide +kernel) (by decide +kernel)
/-! java/util/ConcurrentModificationException -/
set_option maxRecDepth 100000
def RJ31 : String := "java/util/ConcurrentModificationException"
def TJ31 : u_T := fun k => match k with
  | 0 => ("java/lang/Throwable", "backtrace", "Ljava/lang/Object;", false)
  | 1 => ("java/lang/Throwable", "detailMessage", "Ljava/lang/String;", false)
  | 2 => ("java/lang/Throwable", "cause", "Ljava/lang/Throwable;", false)
  | 3 => ("java/lang/Throwable", "stackTrace", "[Ljava/lang/StackTraceElement;", false)
  | 4 => ("java/lang/Throwable", "depth", "I", false)
  | _ => ("java/lang/Throwable", "suppressedExceptions", "Ljava/util/List;", false)
def tyJ31 : Nat → FieldType := fun k => match k with
  | 0 => .object "java/lang/Object"
  | 1 => .object "java/lang/String"
  | 2 => .object "java/lang/Throwable"
  | 3 => .array (.object "java/lang/StackTraceElement")
  | 4 => .int
  | _ => .object "java/util/List"
abbrev wsJ310 : List Cond := u_ws RJ31 TJ31 6
theorem nmJ31 : ∀ a, a < 6 → ∀ b, b < 6 → a ≠ b → (TJ31 a).2.1 ≠ (TJ31 b).2.1 := by decide +kernel
theorem tyJ31_ok : ∀ k, k < 6 → parseFieldDescriptor (TJ31 k).2.2.1 = some (tyJ31 k) := by decide +kernel
abbrev cJ31_init : ByteArray := prog_53_method_1_code
def yJ31_init : MethodName := ⟨RJ31, "<init>", "()V"⟩
theorem dJ31_init_0 : decode cJ31_init 0 = .ok (.aload_n 0, 1) := by decide +kernel
theorem dJ31_init_1 : decode cJ31_init 1 = .ok (.invokespecial 1, 3) := by decide +kernel
theorem dJ31_init_4 : decode cJ31_init 4 = .ok (.return_, 1) := by decide +kernel
theorem q174 : (Jvm.Cond.initialized "java/util/ConcurrentModificationException") ∈ lw_all := lw_g (lw_at lw_m1 43 rfl) rfl
theorem q516 : (Jvm.Cond.selects "java/util/ConcurrentModificationException" ({ cls := "java/lang/Throwable", name := "fillInStackTrace", desc := "()Ljava/lang/Throwable;" } : Jvm.MethodName) ({ cls := "java/lang/Throwable", name := "fillInStackTrace", desc := "()Ljava/lang/Throwable;" } : Jvm.MethodName)) ∈ lw_all := lw_g (lw_at lw_m2 145 rfl) rfl
theorem q840 : (Jvm.Cond.selects "java/util/ConcurrentModificationException" ({ cls := "java/lang/Object", name := "getClass", desc := "()Ljava/lang/Class;" } : Jvm.MethodName) ({ cls := "java/lang/Object", name := "getClass", desc := "()Ljava/lang/Class;" } : Jvm.MethodName)) ∈ lw_all := lw_g (lw_at lw_m3 229 rfl) rfl
theorem q1399 : (Jvm.Cond.selects "java/util/ConcurrentModificationException" ({ cls := "java/lang/Throwable", name := "toString", desc := "()Ljava/lang/String;" } : Jvm.MethodName) ({ cls := "java/lang/Throwable", name := "toString", desc := "()Ljava/lang/String;" } : Jvm.MethodName)) ∈ lw_all := lw_g (lw_at lw_m6 68 rfl) rfl
theorem q1409 : (Jvm.Cond.selects "java/util/ConcurrentModificationException" ({ cls := "java/lang/Throwable", name := "getLocalizedMessage", desc := "()Ljava/lang/String;" } : Jvm.MethodName) ({ cls := "java/lang/Throwable", name := "getLocalizedMessage", desc := "()Ljava/lang/String;" } : Jvm.MethodName)) ∈ lw_all := lw_g (lw_at lw_m6 78 rfl) rfl
theorem q1418 : (Jvm.Cond.selects "java/util/ConcurrentModificationException" ({ cls := "java/lang/Throwable", name := "getMessage", desc := "()Ljava/lang/String;" } : Jvm.MethodName) ({ cls := "java/lang/Throwable", name := "getMessage", desc := "()Ljava/lang/String;" } : Jvm.MethodName)) ∈ lw_all := lw_g (lw_at lw_m6 87 rfl) rfl
theorem q1661 : (Jvm.Cond.instantiable "java/util/ConcurrentModificationException" (6 : Nat)) ∈ lw_all := lw_g (lw_at lw_m7 90 rfl) rfl
theorem q1663 : (Jvm.Cond.instanceMethod ({ cls := "java/util/ConcurrentModificationException", name := "<init>", desc := "()V" } : Jvm.MethodName)) ∈ lw_all := lw_g (lw_at lw_m7 92 rfl) rfl
theorem q1664 : (Jvm.Cond.code ({ cls := "java/util/ConcurrentModificationException", name := "<init>", desc := "()V" } : Jvm.MethodName) prog_53_method_1_code (1 : Nat) (Option.none : Option Jvm.ClassFile.FieldType)) ∈ lw_all := lw_g (lw_at lw_m7 93 rfl) rfl
theorem q1665 : (Jvm.Cond.methodLink "java/util/ConcurrentModificationException" (1 : Nat) ({ cls := "java/lang/RuntimeException", name := "<init>", desc := "()V" } : Jvm.MethodName)) ∈ lw_all := lw_g (lw_at lw_m7 94 rfl) rfl
theorem q1666 : (Jvm.Cond.lays "java/util/ConcurrentModificationException" "java/lang/Throwable" "backtrace" "Ljava/lang/Object;") ∈ lw_all := lw_g (lw_at lw_m7 95 rfl) rfl
theorem q1667 : (Jvm.Cond.lays "java/util/ConcurrentModificationException" "java/lang/Throwable" "detailMessage" "Ljava/lang/String;") ∈ lw_all := lw_g (lw_at lw_m7 96 rfl) rfl
theorem q1668 : (Jvm.Cond.lays "java/util/ConcurrentModificationException" "java/lang/Throwable" "cause" "Ljava/lang/Throwable;") ∈ lw_all := lw_g (lw_at lw_m7 97 rfl) rfl
theorem q1669 : (Jvm.Cond.lays "java/util/ConcurrentModificationException" "java/lang/Throwable" "stackTrace" "[Ljava/lang/StackTraceElement;") ∈ lw_all := lw_g (lw_at lw_m7 98 rfl) rfl
theorem q1670 : (Jvm.Cond.lays "java/util/ConcurrentModificationException" "java/lang/Throwable" "depth" "I") ∈ lw_all := lw_g (lw_at lw_m7 99 rfl) rfl
theorem q1671 : (Jvm.Cond.lays "java/util/ConcurrentModificationException" "java/lang/Throwable" "suppressedExceptions" "Ljava/util/List;") ∈ lw_all := lw_g (lw_at lw_m7 100 rfl) rfl
theorem q1672 : (Jvm.Cond.superclass "java/util/ConcurrentModificationException" "java/lang/RuntimeException") ∈ lw_all := lw_g (lw_at lw_m7 101 rfl) rfl
theorem q3019 : (Jvm.Cond.castable "java/util/ConcurrentModificationException" "java/lang/Object") ∈ lw_tbl := lw_at lw_m13 8 rfl
theorem in_J31 : ∀ w ∈ wsJ310, w ∈ lw_all := lw_in wsJ310 [1666, 1667, 1668, 1669, 1670, 1671] (by decide +kernel) (by decide +kernel)
/-! java/lang/Object -/
set_option maxRecDepth 100000
def RJ32 : String := "java/lang/Object"
abbrev cJ32_init : ByteArray := object_method_1_code
def yJ32_init : MethodName := ⟨RJ32, "<init>", "()V"⟩
theorem dJ32_init_0 : decode cJ32_init 0 = .ok (.return_, 1) := by decide +kernel
theorem q190 : (Jvm.Cond.instanceMethod ({ cls := "java/lang/Object", name := "<init>", desc := "()V" } : Jvm.MethodName)) ∈ lw_all := lw_g (lw_at lw_m1 59 rfl) rfl
theorem q191 : (Jvm.Cond.code ({ cls := "java/lang/Object", name := "<init>", desc := "()V" } : Jvm.MethodName) object_method_1_code (1 : Nat) (Option.none : Option Jvm.ClassFile.FieldType)) ∈ lw_all := lw_g (lw_at lw_m1 60 rfl) rfl
theorem q571 : (Jvm.Cond.native ({ cls := "java/lang/Object", name := "clone", desc := "()Ljava/lang/Object;" } : Jvm.MethodName)) ∈ lw_all := lw_g (lw_at lw_m2 200 rfl) rfl
theorem q572 : (Jvm.Cond.instanceMethod ({ cls := "java/lang/Object", name := "clone", desc := "()Ljava/lang/Object;" } : Jvm.MethodName)) ∈ lw_all := lw_g (lw_at lw_m2 201 rfl) rfl
theorem q814 : (Jvm.Cond.instanceMethod ({ cls := "java/lang/Object", name := "getClass", desc := "()Ljava/lang/Class;" } : Jvm.MethodName)) ∈ lw_all := lw_g (lw_at lw_m3 203 rfl) rfl
theorem q815 : (Jvm.Cond.sameMethod "java/lang/Object" "java/lang/Object" "getClass" "()Ljava/lang/Class;") ∈ lw_all := lw_g (lw_at lw_m3 204 rfl) rfl
theorem q847 : (Jvm.Cond.native ({ cls := "java/lang/Object", name := "getClass", desc := "()Ljava/lang/Class;" } : Jvm.MethodName)) ∈ lw_all := lw_g (lw_at lw_m3 236 rfl) rfl
theorem q2991 : (Jvm.Cond.initialized "java/lang/Object") ∈ lw_all := lw_g (lw_at lw_m12 220 rfl) rfl
theorem q3030 : (Jvm.Cond.declares ({ cls := "java/lang/Object", name := "getClass", desc := "()Ljava/lang/Class;" } : Jvm.MethodName)) ∈ lw_tbl := lw_at lw_m13 19 rfl
theorem q3048 : (Jvm.Cond.instantiable "java/lang/Object" (0 : Nat)) ∈ lw_all := lw_g (lw_at lw_m13 37 rfl) rfl
/-! java/util/ImmutableCollections$ListN -/
set_option maxRecDepth 100000
def RJ33 : String := "java/util/ImmutableCollections$ListN"
abbrev cJ33_size : ByteArray := prog_60_method_3_code
def yJ33_size : MethodName := ⟨RJ33, "size", "()I"⟩
def dkwJ33_size_0 : List UInt8 := [42, 180, 0, 7, 190, 172]
abbrev dktJ33_size_0 : List UInt8 := dkwJ33_size_0 ++ []
theorem dksJ33_size_0 : cJ33_size.data.toList.drop 0 = dktJ33_size_0 := by decide +kernel
theorem dJ33_size_0 : decode cJ33_size 0 = .ok (.aload_n 0, 1) := dk_42 (dk_at dksJ33_size_0 0 rfl rfl)
theorem dJ33_size_1 : decode cJ33_size 1 = .ok (.getfield 7, 3) := dk_180 0 7 (dk_at dksJ33_size_0 1 rfl rfl)
theorem dJ33_size_4 : decode cJ33_size 4 = .ok (.arraylength, 1) := dk_190 (dk_at dksJ33_size_0 4 rfl rfl)
theorem dJ33_size_5 : decode cJ33_size 5 = .ok (.ireturn, 1) := dk_172 (dk_at dksJ33_size_0 5 rfl rfl)
abbrev cJ33_isEmpty : ByteArray := prog_60_method_2_code
def yJ33_isEmpty : MethodName := ⟨RJ33, "isEmpty", "()Z"⟩
def dkwJ33_isEmpty_0 : List UInt8 := [42, 180, 0, 7, 190, 154, 0, 7, 4, 167, 0, 4, 3, 172]
abbrev dktJ33_isEmpty_0 : List UInt8 := dkwJ33_isEmpty_0 ++ []
theorem dksJ33_isEmpty_0 : cJ33_isEmpty.data.toList.drop 0 = dktJ33_isEmpty_0 := by decide +kernel
theorem dJ33_isEmpty_0 : decode cJ33_isEmpty 0 = .ok (.aload_n 0, 1) := dk_42 (dk_at dksJ33_isEmpty_0 0 rfl rfl)
theorem dJ33_isEmpty_1 : decode cJ33_isEmpty 1 = .ok (.getfield 7, 3) := dk_180 0 7 (dk_at dksJ33_isEmpty_0 1 rfl rfl)
theorem dJ33_isEmpty_4 : decode cJ33_isEmpty 4 = .ok (.arraylength, 1) := dk_190 (dk_at dksJ33_isEmpty_0 4 rfl rfl)
theorem dJ33_isEmpty_5 : decode cJ33_isEmpty 5 = .ok (.ifCond .ne 7, 3) := dk_154 0 7 (dk_at dksJ33_isEmpty_0 5 rfl rfl)
theorem dJ33_isEmpty_8 : decode cJ33_isEmpty 8 = .ok (.iconst 1, 1) := dk_4 (dk_at dksJ33_isEmpty_0 8 rfl rfl)
theorem dJ33_isEmpty_9 : decode cJ33_isEmpty 9 = .ok (.goto 4, 3) := dk_167 0 4 (dk_at dksJ33_isEmpty_0 9 rfl rfl)
theorem dJ33_isEmpty_12 : decode cJ33_isEmpty 12 = .ok (.iconst 0, 1) := dk_3 (dk_at dksJ33_isEmpty_0 12 rfl rfl)
theorem dJ33_isEmpty_13 : decode cJ33_isEmpty 13 = .ok (.ireturn, 1) := dk_172 (dk_at dksJ33_isEmpty_0 13 rfl rfl)
abbrev cJ33_get : ByteArray := prog_60_method_4_code
def yJ33_get : MethodName := ⟨RJ33, "get", "(I)Ljava/lang/Object;"⟩
def dkwJ33_get_0 : List UInt8 := [42, 180, 0, 7, 27, 50, 176]
abbrev dktJ33_get_0 : List UInt8 := dkwJ33_get_0 ++ []
theorem dksJ33_get_0 : cJ33_get.data.toList.drop 0 = dktJ33_get_0 := by decide +kernel
theorem dJ33_get_0 : decode cJ33_get 0 = .ok (.aload_n 0, 1) := dk_42 (dk_at dksJ33_get_0 0 rfl rfl)
theorem dJ33_get_1 : decode cJ33_get 1 = .ok (.getfield 7, 3) := dk_180 0 7 (dk_at dksJ33_get_0 1 rfl rfl)
theorem dJ33_get_4 : decode cJ33_get 4 = .ok (.iload_n 1, 1) := dk_27 (dk_at dksJ33_get_0 4 rfl rfl)
theorem dJ33_get_5 : decode cJ33_get 5 = .ok (.aaload, 1) := dk_50 (dk_at dksJ33_get_0 5 rfl rfl)
theorem dJ33_get_6 : decode cJ33_get 6 = .ok (.areturn, 1) := dk_176 (dk_at dksJ33_get_0 6 rfl rfl)
theorem q625 : (Jvm.Cond.castable "java/util/ImmutableCollections$ListN" "java/util/List") ∈ lw_tbl := lw_at lw_m3 14 rfl
theorem q626 : (Jvm.Cond.selects "java/util/ImmutableCollections$ListN" ({ cls := "java/util/List", name := "size", desc := "()I" } : Jvm.MethodName) ({ cls := "java/util/ImmutableCollections$ListN", name := "size", desc := "()I" } : Jvm.MethodName)) ∈ lw_all := lw_g (lw_at lw_m3 15 rfl) rfl
theorem q627 : (Jvm.Cond.unhidden "java/util/ImmutableCollections$ListN" "size" "()I") ∈ lw_tbl := lw_at lw_m3 16 rfl
theorem q628 : (Jvm.Cond.instanceMethod ({ cls := "java/util/ImmutableCollections$ListN", name := "size", desc := "()I" } : Jvm.MethodName)) ∈ lw_all := lw_g (lw_at lw_m3 17 rfl) rfl
theorem q629 : (Jvm.Cond.publicMethod ({ cls := "java/util/ImmutableCollections$ListN", name := "size", desc := "()I" } : Jvm.MethodName)) ∈ lw_tbl := lw_at lw_m3 18 rfl
theorem q630 : (Jvm.Cond.code ({ cls := "java/util/ImmutableCollections$ListN", name := "size", desc := "()I" } : Jvm.MethodName) prog_60_method_3_code (1 : Nat) (Option.some Jvm.ClassFile.FieldType.int)) ∈ lw_all := lw_g (lw_at lw_m3 19 rfl) rfl
theorem q646 : (Jvm.Cond.selects "java/util/ImmutableCollections$ListN" ({ cls := "java/util/List", name := "clear", desc := "()V" } : Jvm.MethodName) ({ cls := "java/util/ImmutableCollections$AbstractImmutableCollection", name := "clear", desc := "()V" } : Jvm.MethodName)) ∈ lw_all := lw_g (lw_at lw_m3 35 rfl) rfl
theorem q647 : (Jvm.Cond.unhidden "java/util/ImmutableCollections$ListN" "clear" "()V") ∈ lw_tbl := lw_at lw_m3 36 rfl
theorem q669 : (Jvm.Cond.selects "java/util/ImmutableCollections$ListN" ({ cls := "java/util/List", name := "isEmpty", desc := "()Z" } : Jvm.MethodName) ({ cls := "java/util/ImmutableCollections$ListN", name := "isEmpty", desc := "()Z" } : Jvm.MethodName)) ∈ lw_all := lw_g (lw_at lw_m3 58 rfl) rfl
theorem q670 : (Jvm.Cond.unhidden "java/util/ImmutableCollections$ListN" "isEmpty" "()Z") ∈ lw_tbl := lw_at lw_m3 59 rfl
theorem q671 : (Jvm.Cond.instanceMethod ({ cls := "java/util/ImmutableCollections$ListN", name := "isEmpty", desc := "()Z" } : Jvm.MethodName)) ∈ lw_all := lw_g (lw_at lw_m3 60 rfl) rfl
theorem q672 : (Jvm.Cond.publicMethod ({ cls := "java/util/ImmutableCollections$ListN", name := "isEmpty", desc := "()Z" } : Jvm.MethodName)) ∈ lw_tbl := lw_at lw_m3 61 rfl
theorem q673 : (Jvm.Cond.code ({ cls := "java/util/ImmutableCollections$ListN", name := "isEmpty", desc := "()Z" } : Jvm.MethodName) prog_60_method_2_code (1 : Nat) (Option.some Jvm.ClassFile.FieldType.boolean)) ∈ lw_all := lw_g (lw_at lw_m3 62 rfl) rfl
theorem q689 : (Jvm.Cond.selects "java/util/ImmutableCollections$ListN" ({ cls := "java/util/AbstractCollection", name := "size", desc := "()I" } : Jvm.MethodName) ({ cls := "java/util/ImmutableCollections$ListN", name := "size", desc := "()I" } : Jvm.MethodName)) ∈ lw_all := lw_g (lw_at lw_m3 78 rfl) rfl
theorem q711 : (Jvm.Cond.selects "java/util/ImmutableCollections$ListN" ({ cls := "java/util/List", name := "remove", desc := "(I)Ljava/lang/Object;" } : Jvm.MethodName) ({ cls := "java/util/ImmutableCollections$AbstractImmutableList", name := "remove", desc := "(I)Ljava/lang/Object;" } : Jvm.MethodName)) ∈ lw_all := lw_g (lw_at lw_m3 100 rfl) rfl
theorem q712 : (Jvm.Cond.unhidden "java/util/ImmutableCollections$ListN" "remove" "(I)Ljava/lang/Object;") ∈ lw_tbl := lw_at lw_m3 101 rfl
theorem q760 : (Jvm.Cond.selects "java/util/ImmutableCollections$ListN" ({ cls := "java/util/List", name := "get", desc := "(I)Ljava/lang/Object;" } : Jvm.MethodName) ({ cls := "java/util/ImmutableCollections$ListN", name := "get", desc := "(I)Ljava/lang/Object;" } : Jvm.MethodName)) ∈ lw_all := lw_g (lw_at lw_m3 149 rfl) rfl
theorem q761 : (Jvm.Cond.unhidden "java/util/ImmutableCollections$ListN" "get" "(I)Ljava/lang/Object;") ∈ lw_tbl := lw_at lw_m3 150 rfl
theorem q762 : (Jvm.Cond.instanceMethod ({ cls := "java/util/ImmutableCollections$ListN", name := "get", desc := "(I)Ljava/lang/Object;" } : Jvm.MethodName)) ∈ lw_all := lw_g (lw_at lw_m3 151 rfl) rfl
theorem q763 : (Jvm.Cond.publicMethod ({ cls := "java/util/ImmutableCollections$ListN", name := "get", desc := "(I)Ljava/lang/Object;" } : Jvm.MethodName)) ∈ lw_tbl := lw_at lw_m3 152 rfl
theorem q764 : (Jvm.Cond.code ({ cls := "java/util/ImmutableCollections$ListN", name := "get", desc := "(I)Ljava/lang/Object;" } : Jvm.MethodName) prog_60_method_4_code (2 : Nat) (Option.some (Jvm.ClassFile.FieldType.object "java/lang/Object"))) ∈ lw_all := lw_g (lw_at lw_m3 153 rfl) rfl
theorem q842 : (Jvm.Cond.selects "java/util/ImmutableCollections$ListN" ({ cls := "java/lang/Object", name := "getClass", desc := "()Ljava/lang/Class;" } : Jvm.MethodName) ({ cls := "java/lang/Object", name := "getClass", desc := "()Ljava/lang/Class;" } : Jvm.MethodName)) ∈ lw_all := lw_g (lw_at lw_m3 231 rfl) rfl
theorem q855 : (Jvm.Cond.selects "java/util/ImmutableCollections$ListN" ({ cls := "java/util/List", name := "add", desc := "(Ljava/lang/Object;)Z" } : Jvm.MethodName) ({ cls := "java/util/ImmutableCollections$AbstractImmutableCollection", name := "add", desc := "(Ljava/lang/Object;)Z" } : Jvm.MethodName)) ∈ lw_all := lw_g (lw_at lw_m4 4 rfl) rfl
theorem q856 : (Jvm.Cond.unhidden "java/util/ImmutableCollections$ListN" "add" "(Ljava/lang/Object;)Z") ∈ lw_tbl := lw_at lw_m4 5 rfl
theorem q980 : (Jvm.Cond.selects "java/util/ImmutableCollections$ListN" ({ cls := "java/util/List", name := "add", desc := "(ILjava/lang/Object;)V" } : Jvm.MethodName) ({ cls := "java/util/ImmutableCollections$AbstractImmutableList", name := "add", desc := "(ILjava/lang/Object;)V" } : Jvm.MethodName)) ∈ lw_all := lw_g (lw_at lw_m4 129 rfl) rfl
theorem q981 : (Jvm.Cond.unhidden "java/util/ImmutableCollections$ListN" "add" "(ILjava/lang/Object;)V") ∈ lw_tbl := lw_at lw_m4 130 rfl
theorem q1231 : (Jvm.Cond.selects "java/util/ImmutableCollections$ListN" ({ cls := "java/util/List", name := "iterator", desc := "()Ljava/util/Iterator;" } : Jvm.MethodName) ({ cls := "java/util/ImmutableCollections$AbstractImmutableList", name := "iterator", desc := "()Ljava/util/Iterator;" } : Jvm.MethodName)) ∈ lw_all := lw_g (lw_at lw_m5 140 rfl) rfl
theorem q1232 : (Jvm.Cond.unhidden "java/util/ImmutableCollections$ListN" "iterator" "()Ljava/util/Iterator;") ∈ lw_tbl := lw_at lw_m5 141 rfl
theorem q1240 : (Jvm.Cond.selects "java/util/ImmutableCollections$ListN" ({ cls := "java/util/ImmutableCollections$AbstractImmutableList", name := "size", desc := "()I" } : Jvm.MethodName) ({ cls := "java/util/ImmutableCollections$ListN", name := "size", desc := "()I" } : Jvm.MethodName)) ∈ lw_all := lw_g (lw_at lw_m5 149 rfl) rfl
theorem q3009 : (Jvm.Cond.castable "java/util/ImmutableCollections$ListN" "java/lang/Object") ∈ lw_tbl := lw_at lw_m12 238 rfl
theorem q3040 : (Jvm.Cond.fieldLink "java/util/ImmutableCollections$ListN" (7 : Nat) "java/util/ImmutableCollections$ListN" "elements" "[Ljava/lang/Object;") ∈ lw_all := lw_g (lw_at lw_m13 29 rfl) rfl
/-! java/util/ImmutableCollections$AbstractImmutableCollection -/
set_option maxRecDepth 100000
def RJ34 : String := "java/util/ImmutableCollections$AbstractImmutableCollection"
abbrev cJ34_clear : ByteArray := prog_56_method_4_code
def yJ34_clear : MethodName := ⟨RJ34, "clear", "()V"⟩
theorem dJ34_clear_0 : decode cJ34_clear 0 = .ok (.invokestatic 7, 3) := by decide +kernel
theorem dJ34_clear_3 : decode cJ34_clear 3 = .ok (.athrow, 1) := by decide +kernel
abbrev cJ34_add : ByteArray := prog_56_method_2_code
def yJ34_add : MethodName := ⟨RJ34, "add", "(Ljava/lang/Object;)Z"⟩
theorem dJ34_add_0 : decode cJ34_add 0 = .ok (.invokestatic 7, 3) := by decide +kernel
theorem dJ34_add_3 : decode cJ34_add 3 = .ok (.athrow, 1) := by decide +kernel
theorem q648 : (Jvm.Cond.instanceMethod ({ cls := "java/util/ImmutableCollections$AbstractImmutableCollection", name := "clear", desc := "()V" } : Jvm.MethodName)) ∈ lw_all := lw_g (lw_at lw_m3 37 rfl) rfl
theorem q649 : (Jvm.Cond.publicMethod ({ cls := "java/util/ImmutableCollections$AbstractImmutableCollection", name := "clear", desc := "()V" } : Jvm.MethodName)) ∈ lw_tbl := lw_at lw_m3 38 rfl
theorem q650 : (Jvm.Cond.code ({ cls := "java/util/ImmutableCollections$AbstractImmutableCollection", name := "clear", desc := "()V" } : Jvm.MethodName) prog_56_method_4_code (1 : Nat) (Option.none : Option Jvm.ClassFile.FieldType)) ∈ lw_all := lw_g (lw_at lw_m3 39 rfl) rfl
theorem q857 : (Jvm.Cond.instanceMethod ({ cls := "java/util/ImmutableCollections$AbstractImmutableCollection", name := "add", desc := "(Ljava/lang/Object;)Z" } : Jvm.MethodName)) ∈ lw_all := lw_g (lw_at lw_m4 6 rfl) rfl
theorem q858 : (Jvm.Cond.publicMethod ({ cls := "java/util/ImmutableCollections$AbstractImmutableCollection", name := "add", desc := "(Ljava/lang/Object;)Z" } : Jvm.MethodName)) ∈ lw_tbl := lw_at lw_m4 7 rfl
theorem q859 : (Jvm.Cond.code ({ cls := "java/util/ImmutableCollections$AbstractImmutableCollection", name := "add", desc := "(Ljava/lang/Object;)Z" } : Jvm.MethodName) prog_56_method_2_code (2 : Nat) (Option.some Jvm.ClassFile.FieldType.boolean)) ∈ lw_all := lw_g (lw_at lw_m4 8 rfl) rfl
/-! java/util/ImmutableCollections$AbstractImmutableList -/
set_option maxRecDepth 100000
def RJ35 : String := "java/util/ImmutableCollections$AbstractImmutableList"
abbrev cJ35_remove : ByteArray := prog_57_method_4_code
def yJ35_remove : MethodName := ⟨RJ35, "remove", "(I)Ljava/lang/Object;"⟩
theorem dJ35_remove_0 : decode cJ35_remove 0 = .ok (.invokestatic 7, 3) := by decide +kernel
theorem dJ35_remove_3 : decode cJ35_remove 3 = .ok (.athrow, 1) := by decide +kernel
abbrev cJ35_add : ByteArray := prog_57_method_2_code
def yJ35_add : MethodName := ⟨RJ35, "add", "(ILjava/lang/Object;)V"⟩
theorem dJ35_add_0 : decode cJ35_add 0 = .ok (.invokestatic 7, 3) := by decide +kernel
theorem dJ35_add_3 : decode cJ35_add 3 = .ok (.athrow, 1) := by decide +kernel
abbrev cJ35_iterator : ByteArray := prog_57_method_10_code
def yJ35_iterator : MethodName := ⟨RJ35, "iterator", "()Ljava/util/Iterator;"⟩
def dkwJ35_iterator_0 : List UInt8 := [187, 0, 61, 89, 42, 42, 182, 0, 13, 183, 0, 63, 176]
abbrev dktJ35_iterator_0 : List UInt8 := dkwJ35_iterator_0 ++ []
theorem dksJ35_iterator_0 : cJ35_iterator.data.toList.drop 0 = dktJ35_iterator_0 := by decide +kernel
theorem dJ35_iterator_0 : decode cJ35_iterator 0 = .ok (.new 61, 3) := dk_187 0 61 (dk_at dksJ35_iterator_0 0 rfl rfl)
theorem dJ35_iterator_3 : decode cJ35_iterator 3 = .ok (.dup, 1) := dk_89 (dk_at dksJ35_iterator_0 3 rfl rfl)
theorem dJ35_iterator_4 : decode cJ35_iterator 4 = .ok (.aload_n 0, 1) := dk_42 (dk_at dksJ35_iterator_0 4 rfl rfl)
theorem dJ35_iterator_5 : decode cJ35_iterator 5 = .ok (.aload_n 0, 1) := dk_42 (dk_at dksJ35_iterator_0 5 rfl rfl)
theorem dJ35_iterator_6 : decode cJ35_iterator 6 = .ok (.invokevirtual 13, 3) := dk_182 0 13 (dk_at dksJ35_iterator_0 6 rfl rfl)
theorem dJ35_iterator_9 : decode cJ35_iterator 9 = .ok (.invokespecial 63, 3) := dk_183 0 63 (dk_at dksJ35_iterator_0 9 rfl rfl)
theorem dJ35_iterator_12 : decode cJ35_iterator 12 = .ok (.areturn, 1) := dk_176 (dk_at dksJ35_iterator_0 12 rfl rfl)
theorem q713 : (Jvm.Cond.instanceMethod ({ cls := "java/util/ImmutableCollections$AbstractImmutableList", name := "remove", desc := "(I)Ljava/lang/Object;" } : Jvm.MethodName)) ∈ lw_all := lw_g (lw_at lw_m3 102 rfl) rfl
theorem q714 : (Jvm.Cond.publicMethod ({ cls := "java/util/ImmutableCollections$AbstractImmutableList", name := "remove", desc := "(I)Ljava/lang/Object;" } : Jvm.MethodName)) ∈ lw_tbl := lw_at lw_m3 103 rfl
theorem q715 : (Jvm.Cond.code ({ cls := "java/util/ImmutableCollections$AbstractImmutableList", name := "remove", desc := "(I)Ljava/lang/Object;" } : Jvm.MethodName) prog_57_method_4_code (2 : Nat) (Option.some (Jvm.ClassFile.FieldType.object "java/lang/Object"))) ∈ lw_all := lw_g (lw_at lw_m3 104 rfl) rfl
theorem q982 : (Jvm.Cond.instanceMethod ({ cls := "java/util/ImmutableCollections$AbstractImmutableList", name := "add", desc := "(ILjava/lang/Object;)V" } : Jvm.MethodName)) ∈ lw_all := lw_g (lw_at lw_m4 131 rfl) rfl
theorem q983 : (Jvm.Cond.publicMethod ({ cls := "java/util/ImmutableCollections$AbstractImmutableList", name := "add", desc := "(ILjava/lang/Object;)V" } : Jvm.MethodName)) ∈ lw_tbl := lw_at lw_m4 132 rfl
theorem q984 : (Jvm.Cond.code ({ cls := "java/util/ImmutableCollections$AbstractImmutableList", name := "add", desc := "(ILjava/lang/Object;)V" } : Jvm.MethodName) prog_57_method_2_code (3 : Nat) (Option.none : Option Jvm.ClassFile.FieldType)) ∈ lw_all := lw_g (lw_at lw_m4 133 rfl) rfl
theorem q1233 : (Jvm.Cond.instanceMethod ({ cls := "java/util/ImmutableCollections$AbstractImmutableList", name := "iterator", desc := "()Ljava/util/Iterator;" } : Jvm.MethodName)) ∈ lw_all := lw_g (lw_at lw_m5 142 rfl) rfl
theorem q1234 : (Jvm.Cond.publicMethod ({ cls := "java/util/ImmutableCollections$AbstractImmutableList", name := "iterator", desc := "()Ljava/util/Iterator;" } : Jvm.MethodName)) ∈ lw_tbl := lw_at lw_m5 143 rfl
theorem q1235 : (Jvm.Cond.code ({ cls := "java/util/ImmutableCollections$AbstractImmutableList", name := "iterator", desc := "()Ljava/util/Iterator;" } : Jvm.MethodName) prog_57_method_10_code (1 : Nat) (Option.some (Jvm.ClassFile.FieldType.object "java/util/Iterator"))) ∈ lw_all := lw_g (lw_at lw_m5 144 rfl) rfl
theorem q1236 : (Jvm.Cond.classLink "java/util/ImmutableCollections$AbstractImmutableList" (61 : Nat) "java/util/ImmutableCollections$ListItr") ∈ lw_all := lw_g (lw_at lw_m5 145 rfl) rfl
theorem q1238 : (Jvm.Cond.methodLink "java/util/ImmutableCollections$AbstractImmutableList" (13 : Nat) ({ cls := "java/util/ImmutableCollections$AbstractImmutableList", name := "size", desc := "()I" } : Jvm.MethodName)) ∈ lw_all := lw_g (lw_at lw_m5 147 rfl) rfl
theorem q1239 : (Jvm.Cond.sameMethod "java/util/ImmutableCollections$AbstractImmutableList" "java/util/AbstractCollection" "size" "()I") ∈ lw_all := lw_g (lw_at lw_m5 148 rfl) rfl
theorem q1241 : (Jvm.Cond.methodLink "java/util/ImmutableCollections$AbstractImmutableList" (63 : Nat) ({ cls := "java/util/ImmutableCollections$ListItr", name := "<init>", desc := "(Ljava/util/List;I)V" } : Jvm.MethodName)) ∈ lw_all := lw_g (lw_at lw_m5 150 rfl) rfl
/-! java/util/AbstractSequentialList -/
set_option maxRecDepth 100000
def RJ4 : String := "java/util/AbstractSequentialList"
abbrev cJ4_init : ByteArray := prog_45_method_1_code
def yJ4_init : MethodName := ⟨RJ4, "<init>", "()V"⟩
theorem dJ4_init_0 : decode cJ4_init 0 = .ok (.aload_n 0, 1) := by decide +kernel
theorem dJ4_init_1 : decode cJ4_init 1 = .ok (.invokespecial 1, 3) := by decide +kernel
theorem dJ4_init_4 : decode cJ4_init 4 = .ok (.return_, 1) := by decide +kernel
abbrev cJ4_iterator : ByteArray := prog_45_method_7_code
def yJ4_iterator : MethodName := ⟨RJ4, "iterator", "()Ljava/util/Iterator;"⟩
theorem dJ4_iterator_0 : decode cJ4_iterator 0 = .ok (.aload_n 0, 1) := by decide +kernel
theorem dJ4_iterator_1 : decode cJ4_iterator 1 = .ok (.invokevirtual 65, 3) := by decide +kernel
theorem dJ4_iterator_4 : decode cJ4_iterator 4 = .ok (.areturn, 1) := by decide +kernel
theorem q139 : (Jvm.Cond.initialized "java/util/AbstractSequentialList") ∈ lw_all := lw_g (lw_at lw_m1 8 rfl) rfl
theorem q306 : (Jvm.Cond.instanceMethod ({ cls := "java/util/AbstractSequentialList", name := "<init>", desc := "()V" } : Jvm.MethodName)) ∈ lw_all := lw_g (lw_at lw_m1 175 rfl) rfl
theorem q307 : (Jvm.Cond.code ({ cls := "java/util/AbstractSequentialList", name := "<init>", desc := "()V" } : Jvm.MethodName) prog_45_method_1_code (1 : Nat) (Option.none : Option Jvm.ClassFile.FieldType)) ∈ lw_all := lw_g (lw_at lw_m1 176 rfl) rfl
theorem q308 : (Jvm.Cond.methodLink "java/util/AbstractSequentialList" (1 : Nat) ({ cls := "java/util/AbstractList", name := "<init>", desc := "()V" } : Jvm.MethodName)) ∈ lw_all := lw_g (lw_at lw_m1 177 rfl) rfl
theorem q1260 : (Jvm.Cond.instanceMethod ({ cls := "java/util/AbstractSequentialList", name := "iterator", desc := "()Ljava/util/Iterator;" } : Jvm.MethodName)) ∈ lw_all := lw_g (lw_at lw_m5 169 rfl) rfl
theorem q1261 : (Jvm.Cond.publicMethod ({ cls := "java/util/AbstractSequentialList", name := "iterator", desc := "()Ljava/util/Iterator;" } : Jvm.MethodName)) ∈ lw_tbl := lw_at lw_m5 170 rfl
theorem q1262 : (Jvm.Cond.code ({ cls := "java/util/AbstractSequentialList", name := "iterator", desc := "()Ljava/util/Iterator;" } : Jvm.MethodName) prog_45_method_7_code (1 : Nat) (Option.some (Jvm.ClassFile.FieldType.object "java/util/Iterator"))) ∈ lw_all := lw_g (lw_at lw_m5 171 rfl) rfl
theorem q1263 : (Jvm.Cond.methodLink "java/util/AbstractSequentialList" (65 : Nat) ({ cls := "java/util/AbstractSequentialList", name := "listIterator", desc := "()Ljava/util/ListIterator;" } : Jvm.MethodName)) ∈ lw_all := lw_g (lw_at lw_m5 172 rfl) rfl
theorem q1264 : (Jvm.Cond.sameMethod "java/util/AbstractSequentialList" "java/util/AbstractList" "listIterator" "()Ljava/util/ListIterator;") ∈ lw_all := lw_g (lw_at lw_m5 173 rfl) rfl
/-! java/util/LinkedList -/
set_option maxRecDepth 100000
def RJ5 : String := "java/util/LinkedList"
def TJ5 : u_T := fun k => match k with
  | 0 => ("java/util/AbstractList", "modCount", "I", false)
  | 1 => ("java/util/LinkedList", "size", "I", false)
  | 2 => ("java/util/LinkedList", "first", "Ljava/util/LinkedList$Node;", false)
  | _ => ("java/util/LinkedList", "last", "Ljava/util/LinkedList$Node;", false)
def tyJ5 : Nat → FieldType := fun k => match k with
  | 0 => .int
  | 1 => .int
  | 2 => .object "java/util/LinkedList$Node"
  | _ => .object "java/util/LinkedList$Node"
abbrev wsJ50 : List Cond := u_ws RJ5 TJ5 4
theorem nmJ5 : ∀ a, a < 4 → ∀ b, b < 4 → a ≠ b → (TJ5 a).2.1 ≠ (TJ5 b).2.1 := by decide +kernel
theorem tyJ5_ok : ∀ k, k < 4 → parseFieldDescriptor (TJ5 k).2.2.1 = some (tyJ5 k) := by decide +kernel
abbrev cJ5_init : ByteArray := prog_62_method_1_code
def yJ5_init : MethodName := ⟨RJ5, "<init>", "()V"⟩
def dkwJ5_init_0 : List UInt8 := [42, 183, 0, 1, 42, 3, 181, 0, 7, 177]
abbrev dktJ5_init_0 : List UInt8 := dkwJ5_init_0 ++ []
theorem dksJ5_init_0 : cJ5_init.data.toList.drop 0 = dktJ5_init_0 := by decide +kernel
theorem dJ5_init_0 : decode cJ5_init 0 = .ok (.aload_n 0, 1) := dk_42 (dk_at dksJ5_init_0 0 rfl rfl)
theorem dJ5_init_1 : decode cJ5_init 1 = .ok (.invokespecial 1, 3) := dk_183 0 1 (dk_at dksJ5_init_0 1 rfl rfl)
theorem dJ5_init_4 : decode cJ5_init 4 = .ok (.aload_n 0, 1) := dk_42 (dk_at dksJ5_init_0 4 rfl rfl)
theorem dJ5_init_5 : decode cJ5_init 5 = .ok (.iconst 0, 1) := dk_3 (dk_at dksJ5_init_0 5 rfl rfl)
theorem dJ5_init_6 : decode cJ5_init 6 = .ok (.putfield 7, 3) := dk_181 0 7 (dk_at dksJ5_init_0 6 rfl rfl)
theorem dJ5_init_9 : decode cJ5_init 9 = .ok (.return_, 1) := dk_177 (dk_at dksJ5_init_0 9 rfl rfl)
abbrev cJ5_size : ByteArray := prog_62_method_16_code
def yJ5_size : MethodName := ⟨RJ5, "size", "()I"⟩
theorem dJ5_size_0 : decode cJ5_size 0 = .ok (.aload_n 0, 1) := by decide +kernel
theorem dJ5_size_1 : decode cJ5_size 1 = .ok (.getfield 7, 3) := by decide +kernel
theorem dJ5_size_4 : decode cJ5_size 4 = .ok (.ireturn, 1) := by decide +kernel
abbrev cJ5_clear : ByteArray := prog_62_method_21_code
def yJ5_clear : MethodName := ⟨RJ5, "clear", "()V"⟩
def dkwJ5_clear_2 : List UInt8 := [181, 0, 7, 42, 89, 180, 0, 33, 4, 96, 181, 0, 33, 177]
abbrev dktJ5_clear_2 : List UInt8 := dkwJ5_clear_2 ++ []
def dkwJ5_clear_1 : List UInt8 := [43, 1, 181, 0, 30, 44, 76, 167, 255, 230, 42, 42, 1, 90, 181, 0, 27, 181, 0, 18, 42, 3]
abbrev dktJ5_clear_1 : List UInt8 := dkwJ5_clear_1 ++ dktJ5_clear_2
def dkwJ5_clear_0 : List UInt8 := [42, 180, 0, 18, 76, 43, 198, 0, 28, 43, 180, 0, 36, 77, 43, 1, 181, 0, 39, 43, 1, 181, 0, 36]
abbrev dktJ5_clear_0 : List UInt8 := dkwJ5_clear_0 ++ dktJ5_clear_1
theorem dksJ5_clear_0 : cJ5_clear.data.toList.drop 0 = dktJ5_clear_0 := by decide +kernel
theorem dksJ5_clear_1 : cJ5_clear.data.toList.drop 24 = dktJ5_clear_1 := dk_seg dksJ5_clear_0 24 rfl rfl
theorem dksJ5_clear_2 : cJ5_clear.data.toList.drop 46 = dktJ5_clear_2 := dk_seg dksJ5_clear_1 22 rfl rfl
theorem dJ5_clear_0 : decode cJ5_clear 0 = .ok (.aload_n 0, 1) := dk_42 (dk_at dksJ5_clear_0 0 rfl rfl)
theorem dJ5_clear_1 : decode cJ5_clear 1 = .ok (.getfield 18, 3) := dk_180 0 18 (dk_at dksJ5_clear_0 1 rfl rfl)
theorem dJ5_clear_4 : decode cJ5_clear 4 = .ok (.astore_n 1, 1) := dk_76 (dk_at dksJ5_clear_0 4 rfl rfl)
theorem dJ5_clear_5 : decode cJ5_clear 5 = .ok (.aload_n 1, 1) := dk_43 (dk_at dksJ5_clear_0 5 rfl rfl)
theorem dJ5_clear_6 : decode cJ5_clear 6 = .ok (.ifnull 28, 3) := dk_198 0 28 (dk_at dksJ5_clear_0 6 rfl rfl)
theorem dJ5_clear_9 : decode cJ5_clear 9 = .ok (.aload_n 1, 1) := dk_43 (dk_at dksJ5_clear_0 9 rfl rfl)
theorem dJ5_clear_10 : decode cJ5_clear 10 = .ok (.getfield 36, 3) := dk_180 0 36 (dk_at dksJ5_clear_0 10 rfl rfl)
theorem dJ5_clear_13 : decode cJ5_clear 13 = .ok (.astore_n 2, 1) := dk_77 (dk_at dksJ5_clear_0 13 rfl rfl)
theorem dJ5_clear_14 : decode cJ5_clear 14 = .ok (.aload_n 1, 1) := dk_43 (dk_at dksJ5_clear_0 14 rfl rfl)
theorem dJ5_clear_15 : decode cJ5_clear 15 = .ok (.aconst_null, 1) := dk_1 (dk_at dksJ5_clear_0 15 rfl rfl)
theorem dJ5_clear_16 : decode cJ5_clear 16 = .ok (.putfield 39, 3) := dk_181 0 39 (dk_at dksJ5_clear_0 16 rfl rfl)
theorem dJ5_clear_19 : decode cJ5_clear 19 = .ok (.aload_n 1, 1) := dk_43 (dk_at dksJ5_clear_0 19 rfl rfl)
theorem dJ5_clear_20 : decode cJ5_clear 20 = .ok (.aconst_null, 1) := dk_1 (dk_at dksJ5_clear_0 20 rfl rfl)
theorem dJ5_clear_21 : decode cJ5_clear 21 = .ok (.putfield 36, 3) := dk_181 0 36 (dk_at dksJ5_clear_0 21 rfl rfl)
theorem dJ5_clear_24 : decode cJ5_clear 24 = .ok (.aload_n 1, 1) := dk_43 (dk_at dksJ5_clear_1 0 rfl rfl)
theorem dJ5_clear_25 : decode cJ5_clear 25 = .ok (.aconst_null, 1) := dk_1 (dk_at dksJ5_clear_1 1 rfl rfl)
theorem dJ5_clear_26 : decode cJ5_clear 26 = .ok (.putfield 30, 3) := dk_181 0 30 (dk_at dksJ5_clear_1 2 rfl rfl)
theorem dJ5_clear_29 : decode cJ5_clear 29 = .ok (.aload_n 2, 1) := dk_44 (dk_at dksJ5_clear_1 5 rfl rfl)
theorem dJ5_clear_30 : decode cJ5_clear 30 = .ok (.astore_n 1, 1) := dk_76 (dk_at dksJ5_clear_1 6 rfl rfl)
theorem dJ5_clear_31 : decode cJ5_clear 31 = .ok (.goto (-26), 3) := dk_167 255 230 (dk_at dksJ5_clear_1 7 rfl rfl)
theorem dJ5_clear_34 : decode cJ5_clear 34 = .ok (.aload_n 0, 1) := dk_42 (dk_at dksJ5_clear_1 10 rfl rfl)
theorem dJ5_clear_35 : decode cJ5_clear 35 = .ok (.aload_n 0, 1) := dk_42 (dk_at dksJ5_clear_1 11 rfl rfl)
theorem dJ5_clear_36 : decode cJ5_clear 36 = .ok (.aconst_null, 1) := dk_1 (dk_at dksJ5_clear_1 12 rfl rfl)
theorem dJ5_clear_37 : decode cJ5_clear 37 = .ok (.dup_x1, 1) := dk_90 (dk_at dksJ5_clear_1 13 rfl rfl)
theorem dJ5_clear_38 : decode cJ5_clear 38 = .ok (.putfield 27, 3) := dk_181 0 27 (dk_at dksJ5_clear_1 14 rfl rfl)
theorem dJ5_clear_41 : decode cJ5_clear 41 = .ok (.putfield 18, 3) := dk_181 0 18 (dk_at dksJ5_clear_1 17 rfl rfl)
theorem dJ5_clear_44 : decode cJ5_clear 44 = .ok (.aload_n 0, 1) := dk_42 (dk_at dksJ5_clear_1 20 rfl rfl)
theorem dJ5_clear_45 : decode cJ5_clear 45 = .ok (.iconst 0, 1) := dk_3 (dk_at dksJ5_clear_1 21 rfl rfl)
theorem dJ5_clear_46 : decode cJ5_clear 46 = .ok (.putfield 7, 3) := dk_181 0 7 (dk_at dksJ5_clear_2 0 rfl rfl)
theorem dJ5_clear_49 : decode cJ5_clear 49 = .ok (.aload_n 0, 1) := dk_42 (dk_at dksJ5_clear_2 3 rfl rfl)
theorem dJ5_clear_50 : decode cJ5_clear 50 = .ok (.dup, 1) := dk_89 (dk_at dksJ5_clear_2 4 rfl rfl)
theorem dJ5_clear_51 : decode cJ5_clear 51 = .ok (.getfield 33, 3) := dk_180 0 33 (dk_at dksJ5_clear_2 5 rfl rfl)
theorem dJ5_clear_54 : decode cJ5_clear 54 = .ok (.iconst 1, 1) := dk_4 (dk_at dksJ5_clear_2 8 rfl rfl)
theorem dJ5_clear_55 : decode cJ5_clear 55 = .ok (.iadd, 1) := dk_96 (dk_at dksJ5_clear_2 9 rfl rfl)
theorem dJ5_clear_56 : decode cJ5_clear 56 = .ok (.putfield 33, 3) := dk_181 0 33 (dk_at dksJ5_clear_2 10 rfl rfl)
theorem dJ5_clear_59 : decode cJ5_clear 59 = .ok (.return_, 1) := dk_177 (dk_at dksJ5_clear_2 13 rfl rfl)
abbrev cJ5_remove : ByteArray := prog_62_method_25_code
def yJ5_remove : MethodName := ⟨RJ5, "remove", "(I)Ljava/lang/Object;"⟩
def dkwJ5_remove_0 : List UInt8 := [42, 27, 182, 0, 90, 42, 42, 27, 182, 0, 86, 182, 0, 64, 176]
abbrev dktJ5_remove_0 : List UInt8 := dkwJ5_remove_0 ++ []
theorem dksJ5_remove_0 : cJ5_remove.data.toList.drop 0 = dktJ5_remove_0 := by decide +kernel
theorem dJ5_remove_0 : decode cJ5_remove 0 = .ok (.aload_n 0, 1) := dk_42 (dk_at dksJ5_remove_0 0 rfl rfl)
theorem dJ5_remove_1 : decode cJ5_remove 1 = .ok (.iload_n 1, 1) := dk_27 (dk_at dksJ5_remove_0 1 rfl rfl)
theorem dJ5_remove_2 : decode cJ5_remove 2 = .ok (.invokevirtual 90, 3) := dk_182 0 90 (dk_at dksJ5_remove_0 2 rfl rfl)
theorem dJ5_remove_5 : decode cJ5_remove 5 = .ok (.aload_n 0, 1) := dk_42 (dk_at dksJ5_remove_0 5 rfl rfl)
theorem dJ5_remove_6 : decode cJ5_remove 6 = .ok (.aload_n 0, 1) := dk_42 (dk_at dksJ5_remove_0 6 rfl rfl)
theorem dJ5_remove_7 : decode cJ5_remove 7 = .ok (.iload_n 1, 1) := dk_27 (dk_at dksJ5_remove_0 7 rfl rfl)
theorem dJ5_remove_8 : decode cJ5_remove 8 = .ok (.invokevirtual 86, 3) := dk_182 0 86 (dk_at dksJ5_remove_0 8 rfl rfl)
theorem dJ5_remove_11 : decode cJ5_remove 11 = .ok (.invokevirtual 64, 3) := dk_182 0 64 (dk_at dksJ5_remove_0 11 rfl rfl)
theorem dJ5_remove_14 : decode cJ5_remove 14 = .ok (.areturn, 1) := dk_176 (dk_at dksJ5_remove_0 14 rfl rfl)
abbrev cJ5_checkElementIndex : ByteArray := prog_62_method_29_code
def yJ5_checkElementIndex : MethodName := ⟨RJ5, "checkElementIndex", "(I)V"⟩
def dkwJ5_checkElementIndex_0 : List UInt8 := [42, 27, 182, 0, 115, 154, 0, 16, 187, 0, 119, 89, 42, 27, 182, 0, 121, 183, 0, 125, 191, 177]
abbrev dktJ5_checkElementIndex_0 : List UInt8 := dkwJ5_checkElementIndex_0 ++ []
theorem dksJ5_checkElementIndex_0 : cJ5_checkElementIndex.data.toList.drop 0 = dktJ5_checkElementIndex_0 := by decide +kernel
theorem dJ5_checkElementIndex_0 : decode cJ5_checkElementIndex 0 = .ok (.aload_n 0, 1) := dk_42 (dk_at dksJ5_checkElementIndex_0 0 rfl rfl)
theorem dJ5_checkElementIndex_1 : decode cJ5_checkElementIndex 1 = .ok (.iload_n 1, 1) := dk_27 (dk_at dksJ5_checkElementIndex_0 1 rfl rfl)
theorem dJ5_checkElementIndex_2 : decode cJ5_checkElementIndex 2 = .ok (.invokevirtual 115, 3) := dk_182 0 115 (dk_at dksJ5_checkElementIndex_0 2 rfl rfl)
theorem dJ5_checkElementIndex_5 : decode cJ5_checkElementIndex 5 = .ok (.ifCond .ne 16, 3) := dk_154 0 16 (dk_at dksJ5_checkElementIndex_0 5 rfl rfl)
theorem dJ5_checkElementIndex_8 : decode cJ5_checkElementIndex 8 = .ok (.new 119, 3) := dk_187 0 119 (dk_at dksJ5_checkElementIndex_0 8 rfl rfl)
theorem dJ5_checkElementIndex_11 : decode cJ5_checkElementIndex 11 = .ok (.dup, 1) := dk_89 (dk_at dksJ5_checkElementIndex_0 11 rfl rfl)
theorem dJ5_checkElementIndex_12 : decode cJ5_checkElementIndex 12 = .ok (.aload_n 0, 1) := dk_42 (dk_at dksJ5_checkElementIndex_0 12 rfl rfl)
theorem dJ5_checkElementIndex_13 : decode cJ5_checkElementIndex 13 = .ok (.iload_n 1, 1) := dk_27 (dk_at dksJ5_checkElementIndex_0 13 rfl rfl)
theorem dJ5_checkElementIndex_14 : decode cJ5_checkElementIndex 14 = .ok (.invokevirtual 121, 3) := dk_182 0 121 (dk_at dksJ5_checkElementIndex_0 14 rfl rfl)
theorem dJ5_checkElementIndex_17 : decode cJ5_checkElementIndex 17 = .ok (.invokespecial 125, 3) := dk_183 0 125 (dk_at dksJ5_checkElementIndex_0 17 rfl rfl)
theorem dJ5_checkElementIndex_20 : decode cJ5_checkElementIndex 20 = .ok (.athrow, 1) := dk_191 (dk_at dksJ5_checkElementIndex_0 20 rfl rfl)
theorem dJ5_checkElementIndex_21 : decode cJ5_checkElementIndex 21 = .ok (.return_, 1) := dk_177 (dk_at dksJ5_checkElementIndex_0 21 rfl rfl)
abbrev cJ5_isElementIndex : ByteArray := prog_62_method_26_code
def yJ5_isElementIndex : MethodName := ⟨RJ5, "isElementIndex", "(I)Z"⟩
def dkwJ5_isElementIndex_0 : List UInt8 := [27, 155, 0, 15, 27, 42, 180, 0, 7, 162, 0, 7, 4, 167, 0, 4, 3, 172]
abbrev dktJ5_isElementIndex_0 : List UInt8 := dkwJ5_isElementIndex_0 ++ []
theorem dksJ5_isElementIndex_0 : cJ5_isElementIndex.data.toList.drop 0 = dktJ5_isElementIndex_0 := by decide +kernel
theorem dJ5_isElementIndex_0 : decode cJ5_isElementIndex 0 = .ok (.iload_n 1, 1) := dk_27 (dk_at dksJ5_isElementIndex_0 0 rfl rfl)
theorem dJ5_isElementIndex_1 : decode cJ5_isElementIndex 1 = .ok (.ifCond .lt 15, 3) := dk_155 0 15 (dk_at dksJ5_isElementIndex_0 1 rfl rfl)
theorem dJ5_isElementIndex_4 : decode cJ5_isElementIndex 4 = .ok (.iload_n 1, 1) := dk_27 (dk_at dksJ5_isElementIndex_0 4 rfl rfl)
theorem dJ5_isElementIndex_5 : decode cJ5_isElementIndex 5 = .ok (.aload_n 0, 1) := dk_42 (dk_at dksJ5_isElementIndex_0 5 rfl rfl)
theorem dJ5_isElementIndex_6 : decode cJ5_isElementIndex 6 = .ok (.getfield 7, 3) := dk_180 0 7 (dk_at dksJ5_isElementIndex_0 6 rfl rfl)
theorem dJ5_isElementIndex_9 : decode cJ5_isElementIndex 9 = .ok (.if_icmp .ge 7, 3) := dk_162 0 7 (dk_at dksJ5_isElementIndex_0 9 rfl rfl)
theorem dJ5_isElementIndex_12 : decode cJ5_isElementIndex 12 = .ok (.iconst 1, 1) := dk_4 (dk_at dksJ5_isElementIndex_0 12 rfl rfl)
theorem dJ5_isElementIndex_13 : decode cJ5_isElementIndex 13 = .ok (.goto 4, 3) := dk_167 0 4 (dk_at dksJ5_isElementIndex_0 13 rfl rfl)
theorem dJ5_isElementIndex_16 : decode cJ5_isElementIndex 16 = .ok (.iconst 0, 1) := dk_3 (dk_at dksJ5_isElementIndex_0 16 rfl rfl)
theorem dJ5_isElementIndex_17 : decode cJ5_isElementIndex 17 = .ok (.ireturn, 1) := dk_172 (dk_at dksJ5_isElementIndex_0 17 rfl rfl)
abbrev cJ5_node : ByteArray := prog_62_method_31_code
def yJ5_node : MethodName := ⟨RJ5, "node", "(I)Ljava/util/LinkedList$Node;"⟩
def dkwJ5_node_2 : List UInt8 := [29, 27, 164, 0, 14, 44, 180, 0, 30, 77, 132, 3, 255, 167, 255, 243, 44, 176]
abbrev dktJ5_node_2 : List UInt8 := dkwJ5_node_2 ++ []
def dkwJ5_node_1 : List UInt8 := [180, 0, 36, 77, 132, 3, 1, 167, 255, 243, 44, 176, 42, 180, 0, 27, 77, 42, 180, 0, 7, 4, 100, 62]
abbrev dktJ5_node_1 : List UInt8 := dkwJ5_node_1 ++ dktJ5_node_2
def dkwJ5_node_0 : List UInt8 := [27, 42, 180, 0, 7, 4, 122, 162, 0, 28, 42, 180, 0, 18, 77, 3, 62, 29, 27, 162, 0, 14, 44]
abbrev dktJ5_node_0 : List UInt8 := dkwJ5_node_0 ++ dktJ5_node_1
theorem dksJ5_node_0 : cJ5_node.data.toList.drop 0 = dktJ5_node_0 := by decide +kernel
theorem dksJ5_node_1 : cJ5_node.data.toList.drop 23 = dktJ5_node_1 := dk_seg dksJ5_node_0 23 rfl rfl
theorem dksJ5_node_2 : cJ5_node.data.toList.drop 47 = dktJ5_node_2 := dk_seg dksJ5_node_1 24 rfl rfl
theorem dJ5_node_0 : decode cJ5_node 0 = .ok (.iload_n 1, 1) := dk_27 (dk_at dksJ5_node_0 0 rfl rfl)
theorem dJ5_node_1 : decode cJ5_node 1 = .ok (.aload_n 0, 1) := dk_42 (dk_at dksJ5_node_0 1 rfl rfl)
theorem dJ5_node_2 : decode cJ5_node 2 = .ok (.getfield 7, 3) := dk_180 0 7 (dk_at dksJ5_node_0 2 rfl rfl)
theorem dJ5_node_5 : decode cJ5_node 5 = .ok (.iconst 1, 1) := dk_4 (dk_at dksJ5_node_0 5 rfl rfl)
theorem dJ5_node_6 : decode cJ5_node 6 = .ok (.ishr, 1) := dk_122 (dk_at dksJ5_node_0 6 rfl rfl)
theorem dJ5_node_7 : decode cJ5_node 7 = .ok (.if_icmp .ge 28, 3) := dk_162 0 28 (dk_at dksJ5_node_0 7 rfl rfl)
theorem dJ5_node_10 : decode cJ5_node 10 = .ok (.aload_n 0, 1) := dk_42 (dk_at dksJ5_node_0 10 rfl rfl)
theorem dJ5_node_11 : decode cJ5_node 11 = .ok (.getfield 18, 3) := dk_180 0 18 (dk_at dksJ5_node_0 11 rfl rfl)
theorem dJ5_node_14 : decode cJ5_node 14 = .ok (.astore_n 2, 1) := dk_77 (dk_at dksJ5_node_0 14 rfl rfl)
theorem dJ5_node_15 : decode cJ5_node 15 = .ok (.iconst 0, 1) := dk_3 (dk_at dksJ5_node_0 15 rfl rfl)
theorem dJ5_node_16 : decode cJ5_node 16 = .ok (.istore_n 3, 1) := dk_62 (dk_at dksJ5_node_0 16 rfl rfl)
theorem dJ5_node_17 : decode cJ5_node 17 = .ok (.iload_n 3, 1) := dk_29 (dk_at dksJ5_node_0 17 rfl rfl)
theorem dJ5_node_18 : decode cJ5_node 18 = .ok (.iload_n 1, 1) := dk_27 (dk_at dksJ5_node_0 18 rfl rfl)
theorem dJ5_node_19 : decode cJ5_node 19 = .ok (.if_icmp .ge 14, 3) := dk_162 0 14 (dk_at dksJ5_node_0 19 rfl rfl)
theorem dJ5_node_22 : decode cJ5_node 22 = .ok (.aload_n 2, 1) := dk_44 (dk_at dksJ5_node_0 22 rfl rfl)
theorem dJ5_node_23 : decode cJ5_node 23 = .ok (.getfield 36, 3) := dk_180 0 36 (dk_at dksJ5_node_1 0 rfl rfl)
theorem dJ5_node_26 : decode cJ5_node 26 = .ok (.astore_n 2, 1) := dk_77 (dk_at dksJ5_node_1 3 rfl rfl)
theorem dJ5_node_27 : decode cJ5_node 27 = .ok (.iinc 3 1, 3) := dk_132 3 1 (dk_at dksJ5_node_1 4 rfl rfl)
theorem dJ5_node_30 : decode cJ5_node 30 = .ok (.goto (-13), 3) := dk_167 255 243 (dk_at dksJ5_node_1 7 rfl rfl)
theorem dJ5_node_33 : decode cJ5_node 33 = .ok (.aload_n 2, 1) := dk_44 (dk_at dksJ5_node_1 10 rfl rfl)
theorem dJ5_node_34 : decode cJ5_node 34 = .ok (.areturn, 1) := dk_176 (dk_at dksJ5_node_1 11 rfl rfl)
theorem dJ5_node_35 : decode cJ5_node 35 = .ok (.aload_n 0, 1) := dk_42 (dk_at dksJ5_node_1 12 rfl rfl)
theorem dJ5_node_36 : decode cJ5_node 36 = .ok (.getfield 27, 3) := dk_180 0 27 (dk_at dksJ5_node_1 13 rfl rfl)
theorem dJ5_node_39 : decode cJ5_node 39 = .ok (.astore_n 2, 1) := dk_77 (dk_at dksJ5_node_1 16 rfl rfl)
theorem dJ5_node_40 : decode cJ5_node 40 = .ok (.aload_n 0, 1) := dk_42 (dk_at dksJ5_node_1 17 rfl rfl)
theorem dJ5_node_41 : decode cJ5_node 41 = .ok (.getfield 7, 3) := dk_180 0 7 (dk_at dksJ5_node_1 18 rfl rfl)
theorem dJ5_node_44 : decode cJ5_node 44 = .ok (.iconst 1, 1) := dk_4 (dk_at dksJ5_node_1 21 rfl rfl)
theorem dJ5_node_45 : decode cJ5_node 45 = .ok (.isub, 1) := dk_100 (dk_at dksJ5_node_1 22 rfl rfl)
theorem dJ5_node_46 : decode cJ5_node 46 = .ok (.istore_n 3, 1) := dk_62 (dk_at dksJ5_node_1 23 rfl rfl)
theorem dJ5_node_47 : decode cJ5_node 47 = .ok (.iload_n 3, 1) := dk_29 (dk_at dksJ5_node_2 0 rfl rfl)
theorem dJ5_node_48 : decode cJ5_node 48 = .ok (.iload_n 1, 1) := dk_27 (dk_at dksJ5_node_2 1 rfl rfl)
theorem dJ5_node_49 : decode cJ5_node 49 = .ok (.if_icmp .le 14, 3) := dk_164 0 14 (dk_at dksJ5_node_2 2 rfl rfl)
theorem dJ5_node_52 : decode cJ5_node 52 = .ok (.aload_n 2, 1) := dk_44 (dk_at dksJ5_node_2 5 rfl rfl)
theorem dJ5_node_53 : decode cJ5_node 53 = .ok (.getfield 30, 3) := dk_180 0 30 (dk_at dksJ5_node_2 6 rfl rfl)
theorem dJ5_node_56 : decode cJ5_node 56 = .ok (.astore_n 2, 1) := dk_77 (dk_at dksJ5_node_2 9 rfl rfl)
theorem dJ5_node_57 : decode cJ5_node 57 = .ok (.iinc 3 (-1), 3) := dk_132 3 255 (dk_at dksJ5_node_2 10 rfl rfl)
theorem dJ5_node_60 : decode cJ5_node 60 = .ok (.goto (-13), 3) := dk_167 255 243 (dk_at dksJ5_node_2 13 rfl rfl)
theorem dJ5_node_63 : decode cJ5_node 63 = .ok (.aload_n 2, 1) := dk_44 (dk_at dksJ5_node_2 16 rfl rfl)
theorem dJ5_node_64 : decode cJ5_node 64 = .ok (.areturn, 1) := dk_176 (dk_at dksJ5_node_2 17 rfl rfl)
abbrev cJ5_unlink : ByteArray := prog_62_method_8_code
def yJ5_unlink : MethodName := ⟨RJ5, "unlink", "(Ljava/util/LinkedList$Node;)Ljava/lang/Object;"⟩
def dkwJ5_unlink_3 : List UInt8 := [180, 0, 7, 4, 100, 181, 0, 7, 42, 89, 180, 0, 33, 4, 96, 181, 0, 33, 44, 176]
abbrev dktJ5_unlink_3 : List UInt8 := dkwJ5_unlink_3 ++ []
def dkwJ5_unlink_2 : List UInt8 := [181, 0, 27, 167, 0, 14, 45, 25, 4, 181, 0, 30, 43, 1, 181, 0, 36, 43, 1, 181, 0, 39, 42, 89]
abbrev dktJ5_unlink_2 : List UInt8 := dkwJ5_unlink_2 ++ dktJ5_unlink_3
def dkwJ5_unlink_1 : List UInt8 := [181, 0, 18, 167, 0, 14, 25, 4, 45, 181, 0, 36, 43, 1, 181, 0, 30, 45, 199, 0, 12, 42, 25, 4]
abbrev dktJ5_unlink_1 : List UInt8 := dkwJ5_unlink_1 ++ dktJ5_unlink_2
def dkwJ5_unlink_0 : List UInt8 := [43, 180, 0, 39, 77, 43, 180, 0, 36, 78, 43, 180, 0, 30, 58, 4, 25, 4, 199, 0, 11, 42, 45]
abbrev dktJ5_unlink_0 : List UInt8 := dkwJ5_unlink_0 ++ dktJ5_unlink_1
theorem dksJ5_unlink_0 : cJ5_unlink.data.toList.drop 0 = dktJ5_unlink_0 := by decide +kernel
theorem dksJ5_unlink_1 : cJ5_unlink.data.toList.drop 23 = dktJ5_unlink_1 := dk_seg dksJ5_unlink_0 23 rfl rfl
theorem dksJ5_unlink_2 : cJ5_unlink.data.toList.drop 47 = dktJ5_unlink_2 := dk_seg dksJ5_unlink_1 24 rfl rfl
theorem dksJ5_unlink_3 : cJ5_unlink.data.toList.drop 71 = dktJ5_unlink_3 := dk_seg dksJ5_unlink_2 24 rfl rfl
theorem dJ5_unlink_0 : decode cJ5_unlink 0 = .ok (.aload_n 1, 1) := dk_43 (dk_at dksJ5_unlink_0 0 rfl rfl)
theorem dJ5_unlink_1 : decode cJ5_unlink 1 = .ok (.getfield 39, 3) := dk_180 0 39 (dk_at dksJ5_unlink_0 1 rfl rfl)
theorem dJ5_unlink_4 : decode cJ5_unlink 4 = .ok (.astore_n 2, 1) := dk_77 (dk_at dksJ5_unlink_0 4 rfl rfl)
theorem dJ5_unlink_5 : decode cJ5_unlink 5 = .ok (.aload_n 1, 1) := dk_43 (dk_at dksJ5_unlink_0 5 rfl rfl)
theorem dJ5_unlink_6 : decode cJ5_unlink 6 = .ok (.getfield 36, 3) := dk_180 0 36 (dk_at dksJ5_unlink_0 6 rfl rfl)
theorem dJ5_unlink_9 : decode cJ5_unlink 9 = .ok (.astore_n 3, 1) := dk_78 (dk_at dksJ5_unlink_0 9 rfl rfl)
theorem dJ5_unlink_10 : decode cJ5_unlink 10 = .ok (.aload_n 1, 1) := dk_43 (dk_at dksJ5_unlink_0 10 rfl rfl)
theorem dJ5_unlink_11 : decode cJ5_unlink 11 = .ok (.getfield 30, 3) := dk_180 0 30 (dk_at dksJ5_unlink_0 11 rfl rfl)
theorem dJ5_unlink_14 : decode cJ5_unlink 14 = .ok (.astore 4, 2) := dk_58 4 (dk_at dksJ5_unlink_0 14 rfl rfl)
theorem dJ5_unlink_16 : decode cJ5_unlink 16 = .ok (.aload 4, 2) := dk_25 4 (dk_at dksJ5_unlink_0 16 rfl rfl)
theorem dJ5_unlink_18 : decode cJ5_unlink 18 = .ok (.ifnonnull 11, 3) := dk_199 0 11 (dk_at dksJ5_unlink_0 18 rfl rfl)
theorem dJ5_unlink_21 : decode cJ5_unlink 21 = .ok (.aload_n 0, 1) := dk_42 (dk_at dksJ5_unlink_0 21 rfl rfl)
theorem dJ5_unlink_22 : decode cJ5_unlink 22 = .ok (.aload_n 3, 1) := dk_45 (dk_at dksJ5_unlink_0 22 rfl rfl)
theorem dJ5_unlink_23 : decode cJ5_unlink 23 = .ok (.putfield 18, 3) := dk_181 0 18 (dk_at dksJ5_unlink_1 0 rfl rfl)
theorem dJ5_unlink_26 : decode cJ5_unlink 26 = .ok (.goto 14, 3) := dk_167 0 14 (dk_at dksJ5_unlink_1 3 rfl rfl)
theorem dJ5_unlink_29 : decode cJ5_unlink 29 = .ok (.aload 4, 2) := dk_25 4 (dk_at dksJ5_unlink_1 6 rfl rfl)
theorem dJ5_unlink_31 : decode cJ5_unlink 31 = .ok (.aload_n 3, 1) := dk_45 (dk_at dksJ5_unlink_1 8 rfl rfl)
theorem dJ5_unlink_32 : decode cJ5_unlink 32 = .ok (.putfield 36, 3) := dk_181 0 36 (dk_at dksJ5_unlink_1 9 rfl rfl)
theorem dJ5_unlink_35 : decode cJ5_unlink 35 = .ok (.aload_n 1, 1) := dk_43 (dk_at dksJ5_unlink_1 12 rfl rfl)
theorem dJ5_unlink_36 : decode cJ5_unlink 36 = .ok (.aconst_null, 1) := dk_1 (dk_at dksJ5_unlink_1 13 rfl rfl)
theorem dJ5_unlink_37 : decode cJ5_unlink 37 = .ok (.putfield 30, 3) := dk_181 0 30 (dk_at dksJ5_unlink_1 14 rfl rfl)
theorem dJ5_unlink_40 : decode cJ5_unlink 40 = .ok (.aload_n 3, 1) := dk_45 (dk_at dksJ5_unlink_1 17 rfl rfl)
theorem dJ5_unlink_41 : decode cJ5_unlink 41 = .ok (.ifnonnull 12, 3) := dk_199 0 12 (dk_at dksJ5_unlink_1 18 rfl rfl)
theorem dJ5_unlink_44 : decode cJ5_unlink 44 = .ok (.aload_n 0, 1) := dk_42 (dk_at dksJ5_unlink_1 21 rfl rfl)
theorem dJ5_unlink_45 : decode cJ5_unlink 45 = .ok (.aload 4, 2) := dk_25 4 (dk_at dksJ5_unlink_1 22 rfl rfl)
theorem dJ5_unlink_47 : decode cJ5_unlink 47 = .ok (.putfield 27, 3) := dk_181 0 27 (dk_at dksJ5_unlink_2 0 rfl rfl)
theorem dJ5_unlink_50 : decode cJ5_unlink 50 = .ok (.goto 14, 3) := dk_167 0 14 (dk_at dksJ5_unlink_2 3 rfl rfl)
theorem dJ5_unlink_53 : decode cJ5_unlink 53 = .ok (.aload_n 3, 1) := dk_45 (dk_at dksJ5_unlink_2 6 rfl rfl)
theorem dJ5_unlink_54 : decode cJ5_unlink 54 = .ok (.aload 4, 2) := dk_25 4 (dk_at dksJ5_unlink_2 7 rfl rfl)
theorem dJ5_unlink_56 : decode cJ5_unlink 56 = .ok (.putfield 30, 3) := dk_181 0 30 (dk_at dksJ5_unlink_2 9 rfl rfl)
theorem dJ5_unlink_59 : decode cJ5_unlink 59 = .ok (.aload_n 1, 1) := dk_43 (dk_at dksJ5_unlink_2 12 rfl rfl)
theorem dJ5_unlink_60 : decode cJ5_unlink 60 = .ok (.aconst_null, 1) := dk_1 (dk_at dksJ5_unlink_2 13 rfl rfl)
theorem dJ5_unlink_61 : decode cJ5_unlink 61 = .ok (.putfield 36, 3) := dk_181 0 36 (dk_at dksJ5_unlink_2 14 rfl rfl)
theorem dJ5_unlink_64 : decode cJ5_unlink 64 = .ok (.aload_n 1, 1) := dk_43 (dk_at dksJ5_unlink_2 17 rfl rfl)
theorem dJ5_unlink_65 : decode cJ5_unlink 65 = .ok (.aconst_null, 1) := dk_1 (dk_at dksJ5_unlink_2 18 rfl rfl)
theorem dJ5_unlink_66 : decode cJ5_unlink 66 = .ok (.putfield 39, 3) := dk_181 0 39 (dk_at dksJ5_unlink_2 19 rfl rfl)
theorem dJ5_unlink_69 : decode cJ5_unlink 69 = .ok (.aload_n 0, 1) := dk_42 (dk_at dksJ5_unlink_2 22 rfl rfl)
theorem dJ5_unlink_70 : decode cJ5_unlink 70 = .ok (.dup, 1) := dk_89 (dk_at dksJ5_unlink_2 23 rfl rfl)
theorem dJ5_unlink_71 : decode cJ5_unlink 71 = .ok (.getfield 7, 3) := dk_180 0 7 (dk_at dksJ5_unlink_3 0 rfl rfl)
theorem dJ5_unlink_74 : decode cJ5_unlink 74 = .ok (.iconst 1, 1) := dk_4 (dk_at dksJ5_unlink_3 3 rfl rfl)
theorem dJ5_unlink_75 : decode cJ5_unlink 75 = .ok (.isub, 1) := dk_100 (dk_at dksJ5_unlink_3 4 rfl rfl)
theorem dJ5_unlink_76 : decode cJ5_unlink 76 = .ok (.putfield 7, 3) := dk_181 0 7 (dk_at dksJ5_unlink_3 5 rfl rfl)
theorem dJ5_unlink_79 : decode cJ5_unlink 79 = .ok (.aload_n 0, 1) := dk_42 (dk_at dksJ5_unlink_3 8 rfl rfl)
theorem dJ5_unlink_80 : decode cJ5_unlink 80 = .ok (.dup, 1) := dk_89 (dk_at dksJ5_unlink_3 9 rfl rfl)
theorem dJ5_unlink_81 : decode cJ5_unlink 81 = .ok (.getfield 33, 3) := dk_180 0 33 (dk_at dksJ5_unlink_3 10 rfl rfl)
theorem dJ5_unlink_84 : decode cJ5_unlink 84 = .ok (.iconst 1, 1) := dk_4 (dk_at dksJ5_unlink_3 13 rfl rfl)
theorem dJ5_unlink_85 : decode cJ5_unlink 85 = .ok (.iadd, 1) := dk_96 (dk_at dksJ5_unlink_3 14 rfl rfl)
theorem dJ5_unlink_86 : decode cJ5_unlink 86 = .ok (.putfield 33, 3) := dk_181 0 33 (dk_at dksJ5_unlink_3 15 rfl rfl)
theorem dJ5_unlink_89 : decode cJ5_unlink 89 = .ok (.aload_n 2, 1) := dk_44 (dk_at dksJ5_unlink_3 18 rfl rfl)
theorem dJ5_unlink_90 : decode cJ5_unlink 90 = .ok (.areturn, 1) := dk_176 (dk_at dksJ5_unlink_3 19 rfl rfl)
abbrev cJ5_get : ByteArray := prog_62_method_22_code
def yJ5_get : MethodName := ⟨RJ5, "get", "(I)Ljava/lang/Object;"⟩
def dkwJ5_get_0 : List UInt8 := [42, 27, 182, 0, 90, 42, 27, 182, 0, 86, 180, 0, 39, 176]
abbrev dktJ5_get_0 : List UInt8 := dkwJ5_get_0 ++ []
theorem dksJ5_get_0 : cJ5_get.data.toList.drop 0 = dktJ5_get_0 := by decide +kernel
theorem dJ5_get_0 : decode cJ5_get 0 = .ok (.aload_n 0, 1) := dk_42 (dk_at dksJ5_get_0 0 rfl rfl)
theorem dJ5_get_1 : decode cJ5_get 1 = .ok (.iload_n 1, 1) := dk_27 (dk_at dksJ5_get_0 1 rfl rfl)
theorem dJ5_get_2 : decode cJ5_get 2 = .ok (.invokevirtual 90, 3) := dk_182 0 90 (dk_at dksJ5_get_0 2 rfl rfl)
theorem dJ5_get_5 : decode cJ5_get 5 = .ok (.aload_n 0, 1) := dk_42 (dk_at dksJ5_get_0 5 rfl rfl)
theorem dJ5_get_6 : decode cJ5_get 6 = .ok (.iload_n 1, 1) := dk_27 (dk_at dksJ5_get_0 6 rfl rfl)
theorem dJ5_get_7 : decode cJ5_get 7 = .ok (.invokevirtual 86, 3) := dk_182 0 86 (dk_at dksJ5_get_0 7 rfl rfl)
theorem dJ5_get_10 : decode cJ5_get 10 = .ok (.getfield 39, 3) := dk_180 0 39 (dk_at dksJ5_get_0 10 rfl rfl)
theorem dJ5_get_13 : decode cJ5_get 13 = .ok (.areturn, 1) := dk_176 (dk_at dksJ5_get_0 13 rfl rfl)
abbrev cJ5_add : ByteArray := prog_62_method_17_code
def yJ5_add : MethodName := ⟨RJ5, "add", "(Ljava/lang/Object;)Z"⟩
def dkwJ5_add_0 : List UInt8 := [42, 43, 182, 0, 57, 4, 172]
abbrev dktJ5_add_0 : List UInt8 := dkwJ5_add_0 ++ []
theorem dksJ5_add_0 : cJ5_add.data.toList.drop 0 = dktJ5_add_0 := by decide +kernel
theorem dJ5_add_0 : decode cJ5_add 0 = .ok (.aload_n 0, 1) := dk_42 (dk_at dksJ5_add_0 0 rfl rfl)
theorem dJ5_add_1 : decode cJ5_add 1 = .ok (.aload_n 1, 1) := dk_43 (dk_at dksJ5_add_0 1 rfl rfl)
theorem dJ5_add_2 : decode cJ5_add 2 = .ok (.invokevirtual 57, 3) := dk_182 0 57 (dk_at dksJ5_add_0 2 rfl rfl)
theorem dJ5_add_5 : decode cJ5_add 5 = .ok (.iconst 1, 1) := dk_4 (dk_at dksJ5_add_0 5 rfl rfl)
theorem dJ5_add_6 : decode cJ5_add 6 = .ok (.ireturn, 1) := dk_172 (dk_at dksJ5_add_0 6 rfl rfl)
abbrev cJ5_linkLast : ByteArray := prog_62_method_4_code
def yJ5_linkLast : MethodName := ⟨RJ5, "linkLast", "(Ljava/lang/Object;)V"⟩
def dkwJ5_linkLast_2 : List UInt8 := [181, 0, 7, 42, 89, 180, 0, 33, 4, 96, 181, 0, 33, 177]
abbrev dktJ5_linkLast_2 : List UInt8 := dkwJ5_linkLast_2 ++ []
def dkwJ5_linkLast_1 : List UInt8 := [199, 0, 11, 42, 45, 181, 0, 18, 167, 0, 8, 44, 45, 181, 0, 36, 42, 89, 180, 0, 7, 4, 96]
abbrev dktJ5_linkLast_1 : List UInt8 := dkwJ5_linkLast_1 ++ dktJ5_linkLast_2
def dkwJ5_linkLast_0 : List UInt8 := [42, 180, 0, 27, 77, 187, 0, 22, 89, 44, 43, 1, 183, 0, 24, 78, 42, 45, 181, 0, 27, 44]
abbrev dktJ5_linkLast_0 : List UInt8 := dkwJ5_linkLast_0 ++ dktJ5_linkLast_1
theorem dksJ5_linkLast_0 : cJ5_linkLast.data.toList.drop 0 = dktJ5_linkLast_0 := by decide +kernel
theorem dksJ5_linkLast_1 : cJ5_linkLast.data.toList.drop 22 = dktJ5_linkLast_1 := dk_seg dksJ5_linkLast_0 22 rfl rfl
theorem dksJ5_linkLast_2 : cJ5_linkLast.data.toList.drop 45 = dktJ5_linkLast_2 := dk_seg dksJ5_linkLast_1 23 rfl rfl
theorem dJ5_linkLast_0 : decode cJ5_linkLast 0 = .ok (.aload_n 0, 1) := dk_42 (dk_at dksJ5_linkLast_0 0 rfl rfl)
theorem dJ5_linkLast_1 : decode cJ5_linkLast 1 = .ok (.getfield 27, 3) := dk_180 0 27 (dk_at dksJ5_linkLast_0 1 rfl rfl)
theorem dJ5_linkLast_4 : decode cJ5_linkLast 4 = .ok (.astore_n 2, 1) := dk_77 (dk_at dksJ5_linkLast_0 4 rfl rfl)
theorem dJ5_linkLast_5 : decode cJ5_linkLast 5 = .ok (.new 22, 3) := dk_187 0 22 (dk_at dksJ5_linkLast_0 5 rfl rfl)
theorem dJ5_linkLast_8 : decode cJ5_linkLast 8 = .ok (.dup, 1) := dk_89 (dk_at dksJ5_linkLast_0 8 rfl rfl)
theorem dJ5_linkLast_9 : decode cJ5_linkLast 9 = .ok (.aload_n 2, 1) := dk_44 (dk_at dksJ5_linkLast_0 9 rfl rfl)
theorem dJ5_linkLast_10 : decode cJ5_linkLast 10 = .ok (.aload_n 1, 1) := dk_43 (dk_at dksJ5_linkLast_0 10 rfl rfl)
theorem dJ5_linkLast_11 : decode cJ5_linkLast 11 = .ok (.aconst_null, 1) := dk_1 (dk_at dksJ5_linkLast_0 11 rfl rfl)
theorem dJ5_linkLast_12 : decode cJ5_linkLast 12 = .ok (.invokespecial 24, 3) := dk_183 0 24 (dk_at dksJ5_linkLast_0 12 rfl rfl)
theorem dJ5_linkLast_15 : decode cJ5_linkLast 15 = .ok (.astore_n 3, 1) := dk_78 (dk_at dksJ5_linkLast_0 15 rfl rfl)
theorem dJ5_linkLast_16 : decode cJ5_linkLast 16 = .ok (.aload_n 0, 1) := dk_42 (dk_at dksJ5_linkLast_0 16 rfl rfl)
theorem dJ5_linkLast_17 : decode cJ5_linkLast 17 = .ok (.aload_n 3, 1) := dk_45 (dk_at dksJ5_linkLast_0 17 rfl rfl)
theorem dJ5_linkLast_18 : decode cJ5_linkLast 18 = .ok (.putfield 27, 3) := dk_181 0 27 (dk_at dksJ5_linkLast_0 18 rfl rfl)
theorem dJ5_linkLast_21 : decode cJ5_linkLast 21 = .ok (.aload_n 2, 1) := dk_44 (dk_at dksJ5_linkLast_0 21 rfl rfl)
theorem dJ5_linkLast_22 : decode cJ5_linkLast 22 = .ok (.ifnonnull 11, 3) := dk_199 0 11 (dk_at dksJ5_linkLast_1 0 rfl rfl)
theorem dJ5_linkLast_25 : decode cJ5_linkLast 25 = .ok (.aload_n 0, 1) := dk_42 (dk_at dksJ5_linkLast_1 3 rfl rfl)
theorem dJ5_linkLast_26 : decode cJ5_linkLast 26 = .ok (.aload_n 3, 1) := dk_45 (dk_at dksJ5_linkLast_1 4 rfl rfl)
theorem dJ5_linkLast_27 : decode cJ5_linkLast 27 = .ok (.putfield 18, 3) := dk_181 0 18 (dk_at dksJ5_linkLast_1 5 rfl rfl)
theorem dJ5_linkLast_30 : decode cJ5_linkLast 30 = .ok (.goto 8, 3) := dk_167 0 8 (dk_at dksJ5_linkLast_1 8 rfl rfl)
theorem dJ5_linkLast_33 : decode cJ5_linkLast 33 = .ok (.aload_n 2, 1) := dk_44 (dk_at dksJ5_linkLast_1 11 rfl rfl)
theorem dJ5_linkLast_34 : decode cJ5_linkLast 34 = .ok (.aload_n 3, 1) := dk_45 (dk_at dksJ5_linkLast_1 12 rfl rfl)
theorem dJ5_linkLast_35 : decode cJ5_linkLast 35 = .ok (.putfield 36, 3) := dk_181 0 36 (dk_at dksJ5_linkLast_1 13 rfl rfl)
theorem dJ5_linkLast_38 : decode cJ5_linkLast 38 = .ok (.aload_n 0, 1) := dk_42 (dk_at dksJ5_linkLast_1 16 rfl rfl)
theorem dJ5_linkLast_39 : decode cJ5_linkLast 39 = .ok (.dup, 1) := dk_89 (dk_at dksJ5_linkLast_1 17 rfl rfl)
theorem dJ5_linkLast_40 : decode cJ5_linkLast 40 = .ok (.getfield 7, 3) := dk_180 0 7 (dk_at dksJ5_linkLast_1 18 rfl rfl)
theorem dJ5_linkLast_43 : decode cJ5_linkLast 43 = .ok (.iconst 1, 1) := dk_4 (dk_at dksJ5_linkLast_1 21 rfl rfl)
theorem dJ5_linkLast_44 : decode cJ5_linkLast 44 = .ok (.iadd, 1) := dk_96 (dk_at dksJ5_linkLast_1 22 rfl rfl)
theorem dJ5_linkLast_45 : decode cJ5_linkLast 45 = .ok (.putfield 7, 3) := dk_181 0 7 (dk_at dksJ5_linkLast_2 0 rfl rfl)
theorem dJ5_linkLast_48 : decode cJ5_linkLast 48 = .ok (.aload_n 0, 1) := dk_42 (dk_at dksJ5_linkLast_2 3 rfl rfl)
theorem dJ5_linkLast_49 : decode cJ5_linkLast 49 = .ok (.dup, 1) := dk_89 (dk_at dksJ5_linkLast_2 4 rfl rfl)
theorem dJ5_linkLast_50 : decode cJ5_linkLast 50 = .ok (.getfield 33, 3) := dk_180 0 33 (dk_at dksJ5_linkLast_2 5 rfl rfl)
theorem dJ5_linkLast_53 : decode cJ5_linkLast 53 = .ok (.iconst 1, 1) := dk_4 (dk_at dksJ5_linkLast_2 8 rfl rfl)
theorem dJ5_linkLast_54 : decode cJ5_linkLast 54 = .ok (.iadd, 1) := dk_96 (dk_at dksJ5_linkLast_2 9 rfl rfl)
theorem dJ5_linkLast_55 : decode cJ5_linkLast 55 = .ok (.putfield 33, 3) := dk_181 0 33 (dk_at dksJ5_linkLast_2 10 rfl rfl)
theorem dJ5_linkLast_58 : decode cJ5_linkLast 58 = .ok (.return_, 1) := dk_177 (dk_at dksJ5_linkLast_2 13 rfl rfl)
abbrev cJ5_add_2 : ByteArray := prog_62_method_24_code
def yJ5_add_2 : MethodName := ⟨RJ5, "add", "(ILjava/lang/Object;)V"⟩
def dkwJ5_add_2_1 : List UInt8 := [27, 182, 0, 86, 182, 0, 93, 177]
abbrev dktJ5_add_2_1 : List UInt8 := dkwJ5_add_2_1 ++ []
def dkwJ5_add_2_0 : List UInt8 := [42, 27, 182, 0, 76, 27, 42, 180, 0, 7, 160, 0, 11, 42, 44, 182, 0, 57, 167, 0, 13, 42, 44, 42]
abbrev dktJ5_add_2_0 : List UInt8 := dkwJ5_add_2_0 ++ dktJ5_add_2_1
theorem dksJ5_add_2_0 : cJ5_add_2.data.toList.drop 0 = dktJ5_add_2_0 := by decide +kernel
theorem dksJ5_add_2_1 : cJ5_add_2.data.toList.drop 24 = dktJ5_add_2_1 := dk_seg dksJ5_add_2_0 24 rfl rfl
theorem dJ5_add_2_0 : decode cJ5_add_2 0 = .ok (.aload_n 0, 1) := dk_42 (dk_at dksJ5_add_2_0 0 rfl rfl)
theorem dJ5_add_2_1 : decode cJ5_add_2 1 = .ok (.iload_n 1, 1) := dk_27 (dk_at dksJ5_add_2_0 1 rfl rfl)
theorem dJ5_add_2_2 : decode cJ5_add_2 2 = .ok (.invokevirtual 76, 3) := dk_182 0 76 (dk_at dksJ5_add_2_0 2 rfl rfl)
theorem dJ5_add_2_5 : decode cJ5_add_2 5 = .ok (.iload_n 1, 1) := dk_27 (dk_at dksJ5_add_2_0 5 rfl rfl)
theorem dJ5_add_2_6 : decode cJ5_add_2 6 = .ok (.aload_n 0, 1) := dk_42 (dk_at dksJ5_add_2_0 6 rfl rfl)
theorem dJ5_add_2_7 : decode cJ5_add_2 7 = .ok (.getfield 7, 3) := dk_180 0 7 (dk_at dksJ5_add_2_0 7 rfl rfl)
theorem dJ5_add_2_10 : decode cJ5_add_2 10 = .ok (.if_icmp .ne 11, 3) := dk_160 0 11 (dk_at dksJ5_add_2_0 10 rfl rfl)
theorem dJ5_add_2_13 : decode cJ5_add_2 13 = .ok (.aload_n 0, 1) := dk_42 (dk_at dksJ5_add_2_0 13 rfl rfl)
theorem dJ5_add_2_14 : decode cJ5_add_2 14 = .ok (.aload_n 2, 1) := dk_44 (dk_at dksJ5_add_2_0 14 rfl rfl)
theorem dJ5_add_2_15 : decode cJ5_add_2 15 = .ok (.invokevirtual 57, 3) := dk_182 0 57 (dk_at dksJ5_add_2_0 15 rfl rfl)
theorem dJ5_add_2_18 : decode cJ5_add_2 18 = .ok (.goto 13, 3) := dk_167 0 13 (dk_at dksJ5_add_2_0 18 rfl rfl)
theorem dJ5_add_2_21 : decode cJ5_add_2 21 = .ok (.aload_n 0, 1) := dk_42 (dk_at dksJ5_add_2_0 21 rfl rfl)
theorem dJ5_add_2_22 : decode cJ5_add_2 22 = .ok (.aload_n 2, 1) := dk_44 (dk_at dksJ5_add_2_0 22 rfl rfl)
theorem dJ5_add_2_23 : decode cJ5_add_2 23 = .ok (.aload_n 0, 1) := dk_42 (dk_at dksJ5_add_2_0 23 rfl rfl)
theorem dJ5_add_2_24 : decode cJ5_add_2 24 = .ok (.iload_n 1, 1) := dk_27 (dk_at dksJ5_add_2_1 0 rfl rfl)
theorem dJ5_add_2_25 : decode cJ5_add_2 25 = .ok (.invokevirtual 86, 3) := dk_182 0 86 (dk_at dksJ5_add_2_1 1 rfl rfl)
theorem dJ5_add_2_28 : decode cJ5_add_2 28 = .ok (.invokevirtual 93, 3) := dk_182 0 93 (dk_at dksJ5_add_2_1 4 rfl rfl)
theorem dJ5_add_2_31 : decode cJ5_add_2 31 = .ok (.return_, 1) := dk_177 (dk_at dksJ5_add_2_1 7 rfl rfl)
abbrev cJ5_checkPositionIndex : ByteArray := prog_62_method_30_code
def yJ5_checkPositionIndex : MethodName := ⟨RJ5, "checkPositionIndex", "(I)V"⟩
def dkwJ5_checkPositionIndex_0 : List UInt8 := [42, 27, 182, 0, 128, 154, 0, 16, 187, 0, 119, 89, 42, 27, 182, 0, 121, 183, 0, 125, 191, 177]
abbrev dktJ5_checkPositionIndex_0 : List UInt8 := dkwJ5_checkPositionIndex_0 ++ []
theorem dksJ5_checkPositionIndex_0 : cJ5_checkPositionIndex.data.toList.drop 0 = dktJ5_checkPositionIndex_0 := by decide +kernel
theorem dJ5_checkPositionIndex_0 : decode cJ5_checkPositionIndex 0 = .ok (.aload_n 0, 1) := dk_42 (dk_at dksJ5_checkPositionIndex_0 0 rfl rfl)
theorem dJ5_checkPositionIndex_1 : decode cJ5_checkPositionIndex 1 = .ok (.iload_n 1, 1) := dk_27 (dk_at dksJ5_checkPositionIndex_0 1 rfl rfl)
theorem dJ5_checkPositionIndex_2 : decode cJ5_checkPositionIndex 2 = .ok (.invokevirtual 128, 3) := dk_182 0 128 (dk_at dksJ5_checkPositionIndex_0 2 rfl rfl)
theorem dJ5_checkPositionIndex_5 : decode cJ5_checkPositionIndex 5 = .ok (.ifCond .ne 16, 3) := dk_154 0 16 (dk_at dksJ5_checkPositionIndex_0 5 rfl rfl)
theorem dJ5_checkPositionIndex_8 : decode cJ5_checkPositionIndex 8 = .ok (.new 119, 3) := dk_187 0 119 (dk_at dksJ5_checkPositionIndex_0 8 rfl rfl)
theorem dJ5_checkPositionIndex_11 : decode cJ5_checkPositionIndex 11 = .ok (.dup, 1) := dk_89 (dk_at dksJ5_checkPositionIndex_0 11 rfl rfl)
theorem dJ5_checkPositionIndex_12 : decode cJ5_checkPositionIndex 12 = .ok (.aload_n 0, 1) := dk_42 (dk_at dksJ5_checkPositionIndex_0 12 rfl rfl)
theorem dJ5_checkPositionIndex_13 : decode cJ5_checkPositionIndex 13 = .ok (.iload_n 1, 1) := dk_27 (dk_at dksJ5_checkPositionIndex_0 13 rfl rfl)
theorem dJ5_checkPositionIndex_14 : decode cJ5_checkPositionIndex 14 = .ok (.invokevirtual 121, 3) := dk_182 0 121 (dk_at dksJ5_checkPositionIndex_0 14 rfl rfl)
theorem dJ5_checkPositionIndex_17 : decode cJ5_checkPositionIndex 17 = .ok (.invokespecial 125, 3) := dk_183 0 125 (dk_at dksJ5_checkPositionIndex_0 17 rfl rfl)
theorem dJ5_checkPositionIndex_20 : decode cJ5_checkPositionIndex 20 = .ok (.athrow, 1) := dk_191 (dk_at dksJ5_checkPositionIndex_0 20 rfl rfl)
theorem dJ5_checkPositionIndex_21 : decode cJ5_checkPositionIndex 21 = .ok (.return_, 1) := dk_177 (dk_at dksJ5_checkPositionIndex_0 21 rfl rfl)
abbrev cJ5_isPositionIndex : ByteArray := prog_62_method_27_code
def yJ5_isPositionIndex : MethodName := ⟨RJ5, "isPositionIndex", "(I)Z"⟩
def dkwJ5_isPositionIndex_0 : List UInt8 := [27, 155, 0, 15, 27, 42, 180, 0, 7, 163, 0, 7, 4, 167, 0, 4, 3, 172]
abbrev dktJ5_isPositionIndex_0 : List UInt8 := dkwJ5_isPositionIndex_0 ++ []
theorem dksJ5_isPositionIndex_0 : cJ5_isPositionIndex.data.toList.drop 0 = dktJ5_isPositionIndex_0 := by decide +kernel
theorem dJ5_isPositionIndex_0 : decode cJ5_isPositionIndex 0 = .ok (.iload_n 1, 1) := dk_27 (dk_at dksJ5_isPositionIndex_0 0 rfl rfl)
theorem dJ5_isPositionIndex_1 : decode cJ5_isPositionIndex 1 = .ok (.ifCond .lt 15, 3) := dk_155 0 15 (dk_at dksJ5_isPositionIndex_0 1 rfl rfl)
theorem dJ5_isPositionIndex_4 : decode cJ5_isPositionIndex 4 = .ok (.iload_n 1, 1) := dk_27 (dk_at dksJ5_isPositionIndex_0 4 rfl rfl)
theorem dJ5_isPositionIndex_5 : decode cJ5_isPositionIndex 5 = .ok (.aload_n 0, 1) := dk_42 (dk_at dksJ5_isPositionIndex_0 5 rfl rfl)
theorem dJ5_isPositionIndex_6 : decode cJ5_isPositionIndex 6 = .ok (.getfield 7, 3) := dk_180 0 7 (dk_at dksJ5_isPositionIndex_0 6 rfl rfl)
theorem dJ5_isPositionIndex_9 : decode cJ5_isPositionIndex 9 = .ok (.if_icmp .gt 7, 3) := dk_163 0 7 (dk_at dksJ5_isPositionIndex_0 9 rfl rfl)
theorem dJ5_isPositionIndex_12 : decode cJ5_isPositionIndex 12 = .ok (.iconst 1, 1) := dk_4 (dk_at dksJ5_isPositionIndex_0 12 rfl rfl)
theorem dJ5_isPositionIndex_13 : decode cJ5_isPositionIndex 13 = .ok (.goto 4, 3) := dk_167 0 4 (dk_at dksJ5_isPositionIndex_0 13 rfl rfl)
theorem dJ5_isPositionIndex_16 : decode cJ5_isPositionIndex 16 = .ok (.iconst 0, 1) := dk_3 (dk_at dksJ5_isPositionIndex_0 16 rfl rfl)
theorem dJ5_isPositionIndex_17 : decode cJ5_isPositionIndex 17 = .ok (.ireturn, 1) := dk_172 (dk_at dksJ5_isPositionIndex_0 17 rfl rfl)
abbrev cJ5_linkBefore : ByteArray := prog_62_method_5_code
def yJ5_linkBefore : MethodName := ⟨RJ5, "linkBefore", "(Ljava/lang/Object;Ljava/util/LinkedList$Node;)V"⟩
def dkwJ5_linkBefore_2 : List UInt8 := [96, 181, 0, 7, 42, 89, 180, 0, 33, 4, 96, 181, 0, 33, 177]
abbrev dktJ5_linkBefore_2 : List UInt8 := dkwJ5_linkBefore_2 ++ []
def dkwJ5_linkBefore_1 : List UInt8 := [199, 0, 12, 42, 25, 4, 181, 0, 18, 167, 0, 9, 45, 25, 4, 181, 0, 36, 42, 89, 180, 0, 7, 4]
abbrev dktJ5_linkBefore_1 : List UInt8 := dkwJ5_linkBefore_1 ++ dktJ5_linkBefore_2
def dkwJ5_linkBefore_0 : List UInt8 := [44, 180, 0, 30, 78, 187, 0, 22, 89, 45, 43, 44, 183, 0, 24, 58, 4, 44, 25, 4, 181, 0, 30, 45]
abbrev dktJ5_linkBefore_0 : List UInt8 := dkwJ5_linkBefore_0 ++ dktJ5_linkBefore_1
theorem dksJ5_linkBefore_0 : cJ5_linkBefore.data.toList.drop 0 = dktJ5_linkBefore_0 := by decide +kernel
theorem dksJ5_linkBefore_1 : cJ5_linkBefore.data.toList.drop 24 = dktJ5_linkBefore_1 := dk_seg dksJ5_linkBefore_0 24 rfl rfl
theorem dksJ5_linkBefore_2 : cJ5_linkBefore.data.toList.drop 48 = dktJ5_linkBefore_2 := dk_seg dksJ5_linkBefore_1 24 rfl rfl
theorem dJ5_linkBefore_0 : decode cJ5_linkBefore 0 = .ok (.aload_n 2, 1) := dk_44 (dk_at dksJ5_linkBefore_0 0 rfl rfl)
theorem dJ5_linkBefore_1 : decode cJ5_linkBefore 1 = .ok (.getfield 30, 3) := dk_180 0 30 (dk_at dksJ5_linkBefore_0 1 rfl rfl)
theorem dJ5_linkBefore_4 : decode cJ5_linkBefore 4 = .ok (.astore_n 3, 1) := dk_78 (dk_at dksJ5_linkBefore_0 4 rfl rfl)
theorem dJ5_linkBefore_5 : decode cJ5_linkBefore 5 = .ok (.new 22, 3) := dk_187 0 22 (dk_at dksJ5_linkBefore_0 5 rfl rfl)
theorem dJ5_linkBefore_8 : decode cJ5_linkBefore 8 = .ok (.dup, 1) := dk_89 (dk_at dksJ5_linkBefore_0 8 rfl rfl)
theorem dJ5_linkBefore_9 : decode cJ5_linkBefore 9 = .ok (.aload_n 3, 1) := dk_45 (dk_at dksJ5_linkBefore_0 9 rfl rfl)
theorem dJ5_linkBefore_10 : decode cJ5_linkBefore 10 = .ok (.aload_n 1, 1) := dk_43 (dk_at dksJ5_linkBefore_0 10 rfl rfl)
theorem dJ5_linkBefore_11 : decode cJ5_linkBefore 11 = .ok (.aload_n 2, 1) := dk_44 (dk_at dksJ5_linkBefore_0 11 rfl rfl)
theorem dJ5_linkBefore_12 : decode cJ5_linkBefore 12 = .ok (.invokespecial 24, 3) := dk_183 0 24 (dk_at dksJ5_linkBefore_0 12 rfl rfl)
theorem dJ5_linkBefore_15 : decode cJ5_linkBefore 15 = .ok (.astore 4, 2) := dk_58 4 (dk_at dksJ5_linkBefore_0 15 rfl rfl)
theorem dJ5_linkBefore_17 : decode cJ5_linkBefore 17 = .ok (.aload_n 2, 1) := dk_44 (dk_at dksJ5_linkBefore_0 17 rfl rfl)
theorem dJ5_linkBefore_18 : decode cJ5_linkBefore 18 = .ok (.aload 4, 2) := dk_25 4 (dk_at dksJ5_linkBefore_0 18 rfl rfl)
theorem dJ5_linkBefore_20 : decode cJ5_linkBefore 20 = .ok (.putfield 30, 3) := dk_181 0 30 (dk_at dksJ5_linkBefore_0 20 rfl rfl)
theorem dJ5_linkBefore_23 : decode cJ5_linkBefore 23 = .ok (.aload_n 3, 1) := dk_45 (dk_at dksJ5_linkBefore_0 23 rfl rfl)
theorem dJ5_linkBefore_24 : decode cJ5_linkBefore 24 = .ok (.ifnonnull 12, 3) := dk_199 0 12 (dk_at dksJ5_linkBefore_1 0 rfl rfl)
theorem dJ5_linkBefore_27 : decode cJ5_linkBefore 27 = .ok (.aload_n 0, 1) := dk_42 (dk_at dksJ5_linkBefore_1 3 rfl rfl)
theorem dJ5_linkBefore_28 : decode cJ5_linkBefore 28 = .ok (.aload 4, 2) := dk_25 4 (dk_at dksJ5_linkBefore_1 4 rfl rfl)
theorem dJ5_linkBefore_30 : decode cJ5_linkBefore 30 = .ok (.putfield 18, 3) := dk_181 0 18 (dk_at dksJ5_linkBefore_1 6 rfl rfl)
theorem dJ5_linkBefore_33 : decode cJ5_linkBefore 33 = .ok (.goto 9, 3) := dk_167 0 9 (dk_at dksJ5_linkBefore_1 9 rfl rfl)
theorem dJ5_linkBefore_36 : decode cJ5_linkBefore 36 = .ok (.aload_n 3, 1) := dk_45 (dk_at dksJ5_linkBefore_1 12 rfl rfl)
theorem dJ5_linkBefore_37 : decode cJ5_linkBefore 37 = .ok (.aload 4, 2) := dk_25 4 (dk_at dksJ5_linkBefore_1 13 rfl rfl)
theorem dJ5_linkBefore_39 : decode cJ5_linkBefore 39 = .ok (.putfield 36, 3) := dk_181 0 36 (dk_at dksJ5_linkBefore_1 15 rfl rfl)
theorem dJ5_linkBefore_42 : decode cJ5_linkBefore 42 = .ok (.aload_n 0, 1) := dk_42 (dk_at dksJ5_linkBefore_1 18 rfl rfl)
theorem dJ5_linkBefore_43 : decode cJ5_linkBefore 43 = .ok (.dup, 1) := dk_89 (dk_at dksJ5_linkBefore_1 19 rfl rfl)
theorem dJ5_linkBefore_44 : decode cJ5_linkBefore 44 = .ok (.getfield 7, 3) := dk_180 0 7 (dk_at dksJ5_linkBefore_1 20 rfl rfl)
theorem dJ5_linkBefore_47 : decode cJ5_linkBefore 47 = .ok (.iconst 1, 1) := dk_4 (dk_at dksJ5_linkBefore_1 23 rfl rfl)
theorem dJ5_linkBefore_48 : decode cJ5_linkBefore 48 = .ok (.iadd, 1) := dk_96 (dk_at dksJ5_linkBefore_2 0 rfl rfl)
theorem dJ5_linkBefore_49 : decode cJ5_linkBefore 49 = .ok (.putfield 7, 3) := dk_181 0 7 (dk_at dksJ5_linkBefore_2 1 rfl rfl)
theorem dJ5_linkBefore_52 : decode cJ5_linkBefore 52 = .ok (.aload_n 0, 1) := dk_42 (dk_at dksJ5_linkBefore_2 4 rfl rfl)
theorem dJ5_linkBefore_53 : decode cJ5_linkBefore 53 = .ok (.dup, 1) := dk_89 (dk_at dksJ5_linkBefore_2 5 rfl rfl)
theorem dJ5_linkBefore_54 : decode cJ5_linkBefore 54 = .ok (.getfield 33, 3) := dk_180 0 33 (dk_at dksJ5_linkBefore_2 6 rfl rfl)
theorem dJ5_linkBefore_57 : decode cJ5_linkBefore 57 = .ok (.iconst 1, 1) := dk_4 (dk_at dksJ5_linkBefore_2 9 rfl rfl)
theorem dJ5_linkBefore_58 : decode cJ5_linkBefore 58 = .ok (.iadd, 1) := dk_96 (dk_at dksJ5_linkBefore_2 10 rfl rfl)
theorem dJ5_linkBefore_59 : decode cJ5_linkBefore 59 = .ok (.putfield 33, 3) := dk_181 0 33 (dk_at dksJ5_linkBefore_2 11 rfl rfl)
theorem dJ5_linkBefore_62 : decode cJ5_linkBefore 62 = .ok (.return_, 1) := dk_177 (dk_at dksJ5_linkBefore_2 14 rfl rfl)
abbrev cJ5_listIterator : ByteArray := prog_62_method_49_code
def yJ5_listIterator : MethodName := ⟨RJ5, "listIterator", "(I)Ljava/util/ListIterator;"⟩
def dkwJ5_listIterator_0 : List UInt8 := [42, 27, 182, 0, 76, 187, 0, 150, 89, 42, 27, 183, 0, 152, 176]
abbrev dktJ5_listIterator_0 : List UInt8 := dkwJ5_listIterator_0 ++ []
theorem dksJ5_listIterator_0 : cJ5_listIterator.data.toList.drop 0 = dktJ5_listIterator_0 := by decide +kernel
theorem dJ5_listIterator_0 : decode cJ5_listIterator 0 = .ok (.aload_n 0, 1) := dk_42 (dk_at dksJ5_listIterator_0 0 rfl rfl)
theorem dJ5_listIterator_1 : decode cJ5_listIterator 1 = .ok (.iload_n 1, 1) := dk_27 (dk_at dksJ5_listIterator_0 1 rfl rfl)
theorem dJ5_listIterator_2 : decode cJ5_listIterator 2 = .ok (.invokevirtual 76, 3) := dk_182 0 76 (dk_at dksJ5_listIterator_0 2 rfl rfl)
theorem dJ5_listIterator_5 : decode cJ5_listIterator 5 = .ok (.new 150, 3) := dk_187 0 150 (dk_at dksJ5_listIterator_0 5 rfl rfl)
theorem dJ5_listIterator_8 : decode cJ5_listIterator 8 = .ok (.dup, 1) := dk_89 (dk_at dksJ5_listIterator_0 8 rfl rfl)
theorem dJ5_listIterator_9 : decode cJ5_listIterator 9 = .ok (.aload_n 0, 1) := dk_42 (dk_at dksJ5_listIterator_0 9 rfl rfl)
theorem dJ5_listIterator_10 : decode cJ5_listIterator 10 = .ok (.iload_n 1, 1) := dk_27 (dk_at dksJ5_listIterator_0 10 rfl rfl)
theorem dJ5_listIterator_11 : decode cJ5_listIterator 11 = .ok (.invokespecial 152, 3) := dk_183 0 152 (dk_at dksJ5_listIterator_0 11 rfl rfl)
theorem dJ5_listIterator_14 : decode cJ5_listIterator 14 = .ok (.areturn, 1) := dk_176 (dk_at dksJ5_listIterator_0 14 rfl rfl)
theorem q140 : (Jvm.Cond.initialized "java/util/LinkedList") ∈ lw_all := lw_g (lw_at lw_m1 9 rfl) rfl
theorem q218 : (Jvm.Cond.sameField "java/util/LinkedList" "java/util/AbstractList" "modCount" "I") ∈ lw_all := lw_g (lw_at lw_m1 87 rfl) rfl
theorem q222 : (Jvm.Cond.fieldLink "java/util/LinkedList" (33 : Nat) "java/util/LinkedList" "modCount" "I") ∈ lw_all := lw_g (lw_at lw_m1 91 rfl) rfl
theorem q301 : (Jvm.Cond.instantiable "java/util/LinkedList" (4 : Nat)) ∈ lw_all := lw_g (lw_at lw_m1 170 rfl) rfl
theorem q303 : (Jvm.Cond.instanceMethod ({ cls := "java/util/LinkedList", name := "<init>", desc := "()V" } : Jvm.MethodName)) ∈ lw_all := lw_g (lw_at lw_m1 172 rfl) rfl
theorem q304 : (Jvm.Cond.code ({ cls := "java/util/LinkedList", name := "<init>", desc := "()V" } : Jvm.MethodName) prog_62_method_1_code (1 : Nat) (Option.none : Option Jvm.ClassFile.FieldType)) ∈ lw_all := lw_g (lw_at lw_m1 173 rfl) rfl
theorem q305 : (Jvm.Cond.methodLink "java/util/LinkedList" (1 : Nat) ({ cls := "java/util/AbstractSequentialList", name := "<init>", desc := "()V" } : Jvm.MethodName)) ∈ lw_all := lw_g (lw_at lw_m1 174 rfl) rfl
theorem q309 : (Jvm.Cond.fieldLink "java/util/LinkedList" (7 : Nat) "java/util/LinkedList" "size" "I") ∈ lw_all := lw_g (lw_at lw_m1 178 rfl) rfl
theorem q311 : (Jvm.Cond.fieldLink "java/util/LinkedList" (18 : Nat) "java/util/LinkedList" "first" "Ljava/util/LinkedList$Node;") ∈ lw_all := lw_g (lw_at lw_m1 180 rfl) rfl
theorem q312 : (Jvm.Cond.fieldLink "java/util/LinkedList" (27 : Nat) "java/util/LinkedList" "last" "Ljava/util/LinkedList$Node;") ∈ lw_all := lw_g (lw_at lw_m1 181 rfl) rfl
theorem q313 : (Jvm.Cond.lays "java/util/LinkedList" "java/util/LinkedList" "size" "I") ∈ lw_all := lw_g (lw_at lw_m1 182 rfl) rfl
theorem q314 : (Jvm.Cond.soleField "java/util/LinkedList" "size") ∈ lw_all := lw_g (lw_at lw_m1 183 rfl) rfl
theorem q315 : (Jvm.Cond.lays "java/util/LinkedList" "java/util/LinkedList" "first" "Ljava/util/LinkedList$Node;") ∈ lw_all := lw_g (lw_at lw_m1 184 rfl) rfl
theorem q316 : (Jvm.Cond.soleField "java/util/LinkedList" "first") ∈ lw_all := lw_g (lw_at lw_m1 185 rfl) rfl
theorem q317 : (Jvm.Cond.lays "java/util/LinkedList" "java/util/LinkedList" "last" "Ljava/util/LinkedList$Node;") ∈ lw_all := lw_g (lw_at lw_m1 186 rfl) rfl
theorem q318 : (Jvm.Cond.soleField "java/util/LinkedList" "last") ∈ lw_all := lw_g (lw_at lw_m1 187 rfl) rfl
theorem q319 : (Jvm.Cond.lays "java/util/LinkedList" "java/util/AbstractList" "modCount" "I") ∈ lw_all := lw_g (lw_at lw_m1 188 rfl) rfl
theorem q320 : (Jvm.Cond.superclass "java/util/LinkedList" "java/util/AbstractSequentialList") ∈ lw_all := lw_g (lw_at lw_m1 189 rfl) rfl
theorem q631 : (Jvm.Cond.castable "java/util/LinkedList" "java/util/List") ∈ lw_tbl := lw_at lw_m3 20 rfl
theorem q632 : (Jvm.Cond.selects "java/util/LinkedList" ({ cls := "java/util/List", name := "size", desc := "()I" } : Jvm.MethodName) ({ cls := "java/util/LinkedList", name := "size", desc := "()I" } : Jvm.MethodName)) ∈ lw_all := lw_g (lw_at lw_m3 21 rfl) rfl
theorem q633 : (Jvm.Cond.unhidden "java/util/LinkedList" "size" "()I") ∈ lw_tbl := lw_at lw_m3 22 rfl
theorem q634 : (Jvm.Cond.instanceMethod ({ cls := "java/util/LinkedList", name := "size", desc := "()I" } : Jvm.MethodName)) ∈ lw_all := lw_g (lw_at lw_m3 23 rfl) rfl
theorem q635 : (Jvm.Cond.publicMethod ({ cls := "java/util/LinkedList", name := "size", desc := "()I" } : Jvm.MethodName)) ∈ lw_tbl := lw_at lw_m3 24 rfl
theorem q636 : (Jvm.Cond.code ({ cls := "java/util/LinkedList", name := "size", desc := "()I" } : Jvm.MethodName) prog_62_method_16_code (1 : Nat) (Option.some Jvm.ClassFile.FieldType.int)) ∈ lw_all := lw_g (lw_at lw_m3 25 rfl) rfl
theorem q651 : (Jvm.Cond.selects "java/util/LinkedList" ({ cls := "java/util/List", name := "clear", desc := "()V" } : Jvm.MethodName) ({ cls := "java/util/LinkedList", name := "clear", desc := "()V" } : Jvm.MethodName)) ∈ lw_all := lw_g (lw_at lw_m3 40 rfl) rfl
theorem q652 : (Jvm.Cond.unhidden "java/util/LinkedList" "clear" "()V") ∈ lw_tbl := lw_at lw_m3 41 rfl
theorem q653 : (Jvm.Cond.instanceMethod ({ cls := "java/util/LinkedList", name := "clear", desc := "()V" } : Jvm.MethodName)) ∈ lw_all := lw_g (lw_at lw_m3 42 rfl) rfl
theorem q654 : (Jvm.Cond.publicMethod ({ cls := "java/util/LinkedList", name := "clear", desc := "()V" } : Jvm.MethodName)) ∈ lw_tbl := lw_at lw_m3 43 rfl
theorem q655 : (Jvm.Cond.code ({ cls := "java/util/LinkedList", name := "clear", desc := "()V" } : Jvm.MethodName) prog_62_method_21_code (3 : Nat) (Option.none : Option Jvm.ClassFile.FieldType)) ∈ lw_all := lw_g (lw_at lw_m3 44 rfl) rfl
theorem q674 : (Jvm.Cond.selects "java/util/LinkedList" ({ cls := "java/util/List", name := "isEmpty", desc := "()Z" } : Jvm.MethodName) ({ cls := "java/util/AbstractCollection", name := "isEmpty", desc := "()Z" } : Jvm.MethodName)) ∈ lw_all := lw_g (lw_at lw_m3 63 rfl) rfl
theorem q675 : (Jvm.Cond.unhidden "java/util/LinkedList" "isEmpty" "()Z") ∈ lw_tbl := lw_at lw_m3 64 rfl
theorem q690 : (Jvm.Cond.selects "java/util/LinkedList" ({ cls := "java/util/AbstractCollection", name := "size", desc := "()I" } : Jvm.MethodName) ({ cls := "java/util/LinkedList", name := "size", desc := "()I" } : Jvm.MethodName)) ∈ lw_all := lw_g (lw_at lw_m3 79 rfl) rfl
theorem q716 : (Jvm.Cond.selects "java/util/LinkedList" ({ cls := "java/util/List", name := "remove", desc := "(I)Ljava/lang/Object;" } : Jvm.MethodName) ({ cls := "java/util/LinkedList", name := "remove", desc := "(I)Ljava/lang/Object;" } : Jvm.MethodName)) ∈ lw_all := lw_g (lw_at lw_m3 105 rfl) rfl
theorem q717 : (Jvm.Cond.unhidden "java/util/LinkedList" "remove" "(I)Ljava/lang/Object;") ∈ lw_tbl := lw_at lw_m3 106 rfl
theorem q718 : (Jvm.Cond.instanceMethod ({ cls := "java/util/LinkedList", name := "remove", desc := "(I)Ljava/lang/Object;" } : Jvm.MethodName)) ∈ lw_all := lw_g (lw_at lw_m3 107 rfl) rfl
theorem q719 : (Jvm.Cond.publicMethod ({ cls := "java/util/LinkedList", name := "remove", desc := "(I)Ljava/lang/Object;" } : Jvm.MethodName)) ∈ lw_tbl := lw_at lw_m3 108 rfl
theorem q720 : (Jvm.Cond.code ({ cls := "java/util/LinkedList", name := "remove", desc := "(I)Ljava/lang/Object;" } : Jvm.MethodName) prog_62_method_25_code (2 : Nat) (Option.some (Jvm.ClassFile.FieldType.object "java/lang/Object"))) ∈ lw_all := lw_g (lw_at lw_m3 109 rfl) rfl
theorem q721 : (Jvm.Cond.methodLink "java/util/LinkedList" (90 : Nat) ({ cls := "java/util/LinkedList", name := "checkElementIndex", desc := "(I)V" } : Jvm.MethodName)) ∈ lw_all := lw_g (lw_at lw_m3 110 rfl) rfl
theorem q722 : (Jvm.Cond.privateMethod ({ cls := "java/util/LinkedList", name := "checkElementIndex", desc := "(I)V" } : Jvm.MethodName)) ∈ lw_tbl := lw_at lw_m3 111 rfl
theorem q723 : (Jvm.Cond.instanceMethod ({ cls := "java/util/LinkedList", name := "checkElementIndex", desc := "(I)V" } : Jvm.MethodName)) ∈ lw_all := lw_g (lw_at lw_m3 112 rfl) rfl
theorem q724 : (Jvm.Cond.code ({ cls := "java/util/LinkedList", name := "checkElementIndex", desc := "(I)V" } : Jvm.MethodName) prog_62_method_29_code (2 : Nat) (Option.none : Option Jvm.ClassFile.FieldType)) ∈ lw_all := lw_g (lw_at lw_m3 113 rfl) rfl
theorem q725 : (Jvm.Cond.methodLink "java/util/LinkedList" (115 : Nat) ({ cls := "java/util/LinkedList", name := "isElementIndex", desc := "(I)Z" } : Jvm.MethodName)) ∈ lw_all := lw_g (lw_at lw_m3 114 rfl) rfl
theorem q726 : (Jvm.Cond.privateMethod ({ cls := "java/util/LinkedList", name := "isElementIndex", desc := "(I)Z" } : Jvm.MethodName)) ∈ lw_tbl := lw_at lw_m3 115 rfl
theorem q727 : (Jvm.Cond.instanceMethod ({ cls := "java/util/LinkedList", name := "isElementIndex", desc := "(I)Z" } : Jvm.MethodName)) ∈ lw_all := lw_g (lw_at lw_m3 116 rfl) rfl
theorem q728 : (Jvm.Cond.code ({ cls := "java/util/LinkedList", name := "isElementIndex", desc := "(I)Z" } : Jvm.MethodName) prog_62_method_26_code (2 : Nat) (Option.some Jvm.ClassFile.FieldType.boolean)) ∈ lw_all := lw_g (lw_at lw_m3 117 rfl) rfl
theorem q729 : (Jvm.Cond.methodLink "java/util/LinkedList" (86 : Nat) ({ cls := "java/util/LinkedList", name := "node", desc := "(I)Ljava/util/LinkedList$Node;" } : Jvm.MethodName)) ∈ lw_all := lw_g (lw_at lw_m3 118 rfl) rfl
theorem q730 : (Jvm.Cond.instanceMethod ({ cls := "java/util/LinkedList", name := "node", desc := "(I)Ljava/util/LinkedList$Node;" } : Jvm.MethodName)) ∈ lw_all := lw_g (lw_at lw_m3 119 rfl) rfl
theorem q731 : (Jvm.Cond.selects "java/util/LinkedList" ({ cls := "java/util/LinkedList", name := "node", desc := "(I)Ljava/util/LinkedList$Node;" } : Jvm.MethodName) ({ cls := "java/util/LinkedList", name := "node", desc := "(I)Ljava/util/LinkedList$Node;" } : Jvm.MethodName)) ∈ lw_all := lw_g (lw_at lw_m3 120 rfl) rfl
theorem q732 : (Jvm.Cond.code ({ cls := "java/util/LinkedList", name := "node", desc := "(I)Ljava/util/LinkedList$Node;" } : Jvm.MethodName) prog_62_method_31_code (4 : Nat) (Option.some (Jvm.ClassFile.FieldType.object "java/util/LinkedList$Node"))) ∈ lw_all := lw_g (lw_at lw_m3 121 rfl) rfl
theorem q733 : (Jvm.Cond.methodLink "java/util/LinkedList" (64 : Nat) ({ cls := "java/util/LinkedList", name := "unlink", desc := "(Ljava/util/LinkedList$Node;)Ljava/lang/Object;" } : Jvm.MethodName)) ∈ lw_all := lw_g (lw_at lw_m3 122 rfl) rfl
theorem q734 : (Jvm.Cond.instanceMethod ({ cls := "java/util/LinkedList", name := "unlink", desc := "(Ljava/util/LinkedList$Node;)Ljava/lang/Object;" } : Jvm.MethodName)) ∈ lw_all := lw_g (lw_at lw_m3 123 rfl) rfl
theorem q735 : (Jvm.Cond.selects "java/util/LinkedList" ({ cls := "java/util/LinkedList", name := "unlink", desc := "(Ljava/util/LinkedList$Node;)Ljava/lang/Object;" } : Jvm.MethodName) ({ cls := "java/util/LinkedList", name := "unlink", desc := "(Ljava/util/LinkedList$Node;)Ljava/lang/Object;" } : Jvm.MethodName)) ∈ lw_all := lw_g (lw_at lw_m3 124 rfl) rfl
theorem q736 : (Jvm.Cond.code ({ cls := "java/util/LinkedList", name := "unlink", desc := "(Ljava/util/LinkedList$Node;)Ljava/lang/Object;" } : Jvm.MethodName) prog_62_method_8_code (5 : Nat) (Option.some (Jvm.ClassFile.FieldType.object "java/lang/Object"))) ∈ lw_all := lw_g (lw_at lw_m3 125 rfl) rfl
theorem q765 : (Jvm.Cond.selects "java/util/LinkedList" ({ cls := "java/util/List", name := "get", desc := "(I)Ljava/lang/Object;" } : Jvm.MethodName) ({ cls := "java/util/LinkedList", name := "get", desc := "(I)Ljava/lang/Object;" } : Jvm.MethodName)) ∈ lw_all := lw_g (lw_at lw_m3 154 rfl) rfl
theorem q766 : (Jvm.Cond.unhidden "java/util/LinkedList" "get" "(I)Ljava/lang/Object;") ∈ lw_tbl := lw_at lw_m3 155 rfl
theorem q767 : (Jvm.Cond.instanceMethod ({ cls := "java/util/LinkedList", name := "get", desc := "(I)Ljava/lang/Object;" } : Jvm.MethodName)) ∈ lw_all := lw_g (lw_at lw_m3 156 rfl) rfl
theorem q768 : (Jvm.Cond.publicMethod ({ cls := "java/util/LinkedList", name := "get", desc := "(I)Ljava/lang/Object;" } : Jvm.MethodName)) ∈ lw_tbl := lw_at lw_m3 157 rfl
theorem q769 : (Jvm.Cond.code ({ cls := "java/util/LinkedList", name := "get", desc := "(I)Ljava/lang/Object;" } : Jvm.MethodName) prog_62_method_22_code (2 : Nat) (Option.some (Jvm.ClassFile.FieldType.object "java/lang/Object"))) ∈ lw_all := lw_g (lw_at lw_m3 158 rfl) rfl
theorem q843 : (Jvm.Cond.selects "java/util/LinkedList" ({ cls := "java/lang/Object", name := "getClass", desc := "()Ljava/lang/Class;" } : Jvm.MethodName) ({ cls := "java/lang/Object", name := "getClass", desc := "()Ljava/lang/Class;" } : Jvm.MethodName)) ∈ lw_all := lw_g (lw_at lw_m3 232 rfl) rfl
theorem q860 : (Jvm.Cond.selects "java/util/LinkedList" ({ cls := "java/util/List", name := "add", desc := "(Ljava/lang/Object;)Z" } : Jvm.MethodName) ({ cls := "java/util/LinkedList", name := "add", desc := "(Ljava/lang/Object;)Z" } : Jvm.MethodName)) ∈ lw_all := lw_g (lw_at lw_m4 9 rfl) rfl
theorem q861 : (Jvm.Cond.unhidden "java/util/LinkedList" "add" "(Ljava/lang/Object;)Z") ∈ lw_tbl := lw_at lw_m4 10 rfl
theorem q862 : (Jvm.Cond.instanceMethod ({ cls := "java/util/LinkedList", name := "add", desc := "(Ljava/lang/Object;)Z" } : Jvm.MethodName)) ∈ lw_all := lw_g (lw_at lw_m4 11 rfl) rfl
theorem q863 : (Jvm.Cond.publicMethod ({ cls := "java/util/LinkedList", name := "add", desc := "(Ljava/lang/Object;)Z" } : Jvm.MethodName)) ∈ lw_tbl := lw_at lw_m4 12 rfl
theorem q864 : (Jvm.Cond.code ({ cls := "java/util/LinkedList", name := "add", desc := "(Ljava/lang/Object;)Z" } : Jvm.MethodName) prog_62_method_17_code (2 : Nat) (Option.some Jvm.ClassFile.FieldType.boolean)) ∈ lw_all := lw_g (lw_at lw_m4 13 rfl) rfl
theorem q865 : (Jvm.Cond.methodLink "java/util/LinkedList" (57 : Nat) ({ cls := "java/util/LinkedList", name := "linkLast", desc := "(Ljava/lang/Object;)V" } : Jvm.MethodName)) ∈ lw_all := lw_g (lw_at lw_m4 14 rfl) rfl
theorem q866 : (Jvm.Cond.instanceMethod ({ cls := "java/util/LinkedList", name := "linkLast", desc := "(Ljava/lang/Object;)V" } : Jvm.MethodName)) ∈ lw_all := lw_g (lw_at lw_m4 15 rfl) rfl
theorem q867 : (Jvm.Cond.selects "java/util/LinkedList" ({ cls := "java/util/LinkedList", name := "linkLast", desc := "(Ljava/lang/Object;)V" } : Jvm.MethodName) ({ cls := "java/util/LinkedList", name := "linkLast", desc := "(Ljava/lang/Object;)V" } : Jvm.MethodName)) ∈ lw_all := lw_g (lw_at lw_m4 16 rfl) rfl
theorem q868 : (Jvm.Cond.code ({ cls := "java/util/LinkedList", name := "linkLast", desc := "(Ljava/lang/Object;)V" } : Jvm.MethodName) prog_62_method_4_code (4 : Nat) (Option.none : Option Jvm.ClassFile.FieldType)) ∈ lw_all := lw_g (lw_at lw_m4 17 rfl) rfl
theorem q869 : (Jvm.Cond.classLink "java/util/LinkedList" (22 : Nat) "java/util/LinkedList$Node") ∈ lw_all := lw_g (lw_at lw_m4 18 rfl) rfl
theorem q871 : (Jvm.Cond.methodLink "java/util/LinkedList" (24 : Nat) ({ cls := "java/util/LinkedList$Node", name := "<init>", desc := "(Ljava/util/LinkedList$Node;Ljava/lang/Object;Ljava/util/LinkedList$Node;)V" } : Jvm.MethodName)) ∈ lw_all := lw_g (lw_at lw_m4 20 rfl) rfl
theorem q877 : (Jvm.Cond.fieldLink "java/util/LinkedList" (39 : Nat) "java/util/LinkedList$Node" "item" "Ljava/lang/Object;") ∈ lw_all := lw_g (lw_at lw_m4 26 rfl) rfl
theorem q880 : (Jvm.Cond.fieldLink "java/util/LinkedList" (36 : Nat) "java/util/LinkedList$Node" "next" "Ljava/util/LinkedList$Node;") ∈ lw_all := lw_g (lw_at lw_m4 29 rfl) rfl
theorem q882 : (Jvm.Cond.fieldLink "java/util/LinkedList" (30 : Nat) "java/util/LinkedList$Node" "prev" "Ljava/util/LinkedList$Node;") ∈ lw_all := lw_g (lw_at lw_m4 31 rfl) rfl
theorem q985 : (Jvm.Cond.selects "java/util/LinkedList" ({ cls := "java/util/List", name := "add", desc := "(ILjava/lang/Object;)V" } : Jvm.MethodName) ({ cls := "java/util/LinkedList", name := "add", desc := "(ILjava/lang/Object;)V" } : Jvm.MethodName)) ∈ lw_all := lw_g (lw_at lw_m4 134 rfl) rfl
theorem q986 : (Jvm.Cond.unhidden "java/util/LinkedList" "add" "(ILjava/lang/Object;)V") ∈ lw_tbl := lw_at lw_m4 135 rfl
theorem q987 : (Jvm.Cond.instanceMethod ({ cls := "java/util/LinkedList", name := "add", desc := "(ILjava/lang/Object;)V" } : Jvm.MethodName)) ∈ lw_all := lw_g (lw_at lw_m4 136 rfl) rfl
theorem q988 : (Jvm.Cond.publicMethod ({ cls := "java/util/LinkedList", name := "add", desc := "(ILjava/lang/Object;)V" } : Jvm.MethodName)) ∈ lw_tbl := lw_at lw_m4 137 rfl
theorem q989 : (Jvm.Cond.code ({ cls := "java/util/LinkedList", name := "add", desc := "(ILjava/lang/Object;)V" } : Jvm.MethodName) prog_62_method_24_code (3 : Nat) (Option.none : Option Jvm.ClassFile.FieldType)) ∈ lw_all := lw_g (lw_at lw_m4 138 rfl) rfl
theorem q990 : (Jvm.Cond.methodLink "java/util/LinkedList" (76 : Nat) ({ cls := "java/util/LinkedList", name := "checkPositionIndex", desc := "(I)V" } : Jvm.MethodName)) ∈ lw_all := lw_g (lw_at lw_m4 139 rfl) rfl
theorem q991 : (Jvm.Cond.privateMethod ({ cls := "java/util/LinkedList", name := "checkPositionIndex", desc := "(I)V" } : Jvm.MethodName)) ∈ lw_tbl := lw_at lw_m4 140 rfl
theorem q992 : (Jvm.Cond.instanceMethod ({ cls := "java/util/LinkedList", name := "checkPositionIndex", desc := "(I)V" } : Jvm.MethodName)) ∈ lw_all := lw_g (lw_at lw_m4 141 rfl) rfl
theorem q993 : (Jvm.Cond.code ({ cls := "java/util/LinkedList", name := "checkPositionIndex", desc := "(I)V" } : Jvm.MethodName) prog_62_method_30_code (2 : Nat) (Option.none : Option Jvm.ClassFile.FieldType)) ∈ lw_all := lw_g (lw_at lw_m4 142 rfl) rfl
theorem q994 : (Jvm.Cond.methodLink "java/util/LinkedList" (128 : Nat) ({ cls := "java/util/LinkedList", name := "isPositionIndex", desc := "(I)Z" } : Jvm.MethodName)) ∈ lw_all := lw_g (lw_at lw_m4 143 rfl) rfl
theorem q995 : (Jvm.Cond.privateMethod ({ cls := "java/util/LinkedList", name := "isPositionIndex", desc := "(I)Z" } : Jvm.MethodName)) ∈ lw_tbl := lw_at lw_m4 144 rfl
theorem q996 : (Jvm.Cond.instanceMethod ({ cls := "java/util/LinkedList", name := "isPositionIndex", desc := "(I)Z" } : Jvm.MethodName)) ∈ lw_all := lw_g (lw_at lw_m4 145 rfl) rfl
theorem q997 : (Jvm.Cond.code ({ cls := "java/util/LinkedList", name := "isPositionIndex", desc := "(I)Z" } : Jvm.MethodName) prog_62_method_27_code (2 : Nat) (Option.some Jvm.ClassFile.FieldType.boolean)) ∈ lw_all := lw_g (lw_at lw_m4 146 rfl) rfl
theorem q998 : (Jvm.Cond.methodLink "java/util/LinkedList" (93 : Nat) ({ cls := "java/util/LinkedList", name := "linkBefore", desc := "(Ljava/lang/Object;Ljava/util/LinkedList$Node;)V" } : Jvm.MethodName)) ∈ lw_all := lw_g (lw_at lw_m4 147 rfl) rfl
theorem q999 : (Jvm.Cond.instanceMethod ({ cls := "java/util/LinkedList", name := "linkBefore", desc := "(Ljava/lang/Object;Ljava/util/LinkedList$Node;)V" } : Jvm.MethodName)) ∈ lw_all := lw_g (lw_at lw_m4 148 rfl) rfl
theorem q1000 : (Jvm.Cond.selects "java/util/LinkedList" ({ cls := "java/util/LinkedList", name := "linkBefore", desc := "(Ljava/lang/Object;Ljava/util/LinkedList$Node;)V" } : Jvm.MethodName) ({ cls := "java/util/LinkedList", name := "linkBefore", desc := "(Ljava/lang/Object;Ljava/util/LinkedList$Node;)V" } : Jvm.MethodName)) ∈ lw_all := lw_g (lw_at lw_m4 149 rfl) rfl
theorem q1001 : (Jvm.Cond.code ({ cls := "java/util/LinkedList", name := "linkBefore", desc := "(Ljava/lang/Object;Ljava/util/LinkedList$Node;)V" } : Jvm.MethodName) prog_62_method_5_code (5 : Nat) (Option.none : Option Jvm.ClassFile.FieldType)) ∈ lw_all := lw_g (lw_at lw_m4 150 rfl) rfl
theorem q1258 : (Jvm.Cond.selects "java/util/LinkedList" ({ cls := "java/util/List", name := "iterator", desc := "()Ljava/util/Iterator;" } : Jvm.MethodName) ({ cls := "java/util/AbstractSequentialList", name := "iterator", desc := "()Ljava/util/Iterator;" } : Jvm.MethodName)) ∈ lw_all := lw_g (lw_at lw_m5 167 rfl) rfl
theorem q1259 : (Jvm.Cond.unhidden "java/util/LinkedList" "iterator" "()Ljava/util/Iterator;") ∈ lw_tbl := lw_at lw_m5 168 rfl
theorem q1266 : (Jvm.Cond.selects "java/util/LinkedList" ({ cls := "java/util/AbstractSequentialList", name := "listIterator", desc := "()Ljava/util/ListIterator;" } : Jvm.MethodName) ({ cls := "java/util/AbstractList", name := "listIterator", desc := "()Ljava/util/ListIterator;" } : Jvm.MethodName)) ∈ lw_all := lw_g (lw_at lw_m5 175 rfl) rfl
theorem q1289 : (Jvm.Cond.selects "java/util/LinkedList" ({ cls := "java/util/AbstractList", name := "listIterator", desc := "(I)Ljava/util/ListIterator;" } : Jvm.MethodName) ({ cls := "java/util/LinkedList", name := "listIterator", desc := "(I)Ljava/util/ListIterator;" } : Jvm.MethodName)) ∈ lw_all := lw_g (lw_at lw_m5 198 rfl) rfl
theorem q1290 : (Jvm.Cond.instanceMethod ({ cls := "java/util/LinkedList", name := "listIterator", desc := "(I)Ljava/util/ListIterator;" } : Jvm.MethodName)) ∈ lw_all := lw_g (lw_at lw_m5 199 rfl) rfl
theorem q1291 : (Jvm.Cond.code ({ cls := "java/util/LinkedList", name := "listIterator", desc := "(I)Ljava/util/ListIterator;" } : Jvm.MethodName) prog_62_method_49_code (2 : Nat) (Option.some (Jvm.ClassFile.FieldType.object "java/util/ListIterator"))) ∈ lw_all := lw_g (lw_at lw_m5 200 rfl) rfl
theorem q1292 : (Jvm.Cond.classLink "java/util/LinkedList" (150 : Nat) "java/util/LinkedList$ListItr") ∈ lw_all := lw_g (lw_at lw_m5 201 rfl) rfl
theorem q1294 : (Jvm.Cond.methodLink "java/util/LinkedList" (152 : Nat) ({ cls := "java/util/LinkedList$ListItr", name := "<init>", desc := "(Ljava/util/LinkedList;I)V" } : Jvm.MethodName)) ∈ lw_all := lw_g (lw_at lw_m5 203 rfl) rfl
theorem q1329 : (Jvm.Cond.selects "java/util/LinkedList" ({ cls := "java/util/AbstractList", name := "size", desc := "()I" } : Jvm.MethodName) ({ cls := "java/util/LinkedList", name := "size", desc := "()I" } : Jvm.MethodName)) ∈ lw_all := lw_g (lw_at lw_m5 238 rfl) rfl
theorem q1369 : (Jvm.Cond.selects "java/util/LinkedList" ({ cls := "java/util/AbstractList", name := "get", desc := "(I)Ljava/lang/Object;" } : Jvm.MethodName) ({ cls := "java/util/LinkedList", name := "get", desc := "(I)Ljava/lang/Object;" } : Jvm.MethodName)) ∈ lw_all := lw_g (lw_at lw_m6 38 rfl) rfl
theorem q1658 : (Jvm.Cond.selects "java/util/LinkedList" ({ cls := "java/util/AbstractList", name := "remove", desc := "(I)Ljava/lang/Object;" } : Jvm.MethodName) ({ cls := "java/util/LinkedList", name := "remove", desc := "(I)Ljava/lang/Object;" } : Jvm.MethodName)) ∈ lw_all := lw_g (lw_at lw_m7 87 rfl) rfl
theorem q3003 : (Jvm.Cond.castable "java/util/LinkedList" "java/lang/Object") ∈ lw_tbl := lw_at lw_m12 232 rfl
theorem in_J5 : ∀ w ∈ wsJ50, w ∈ lw_all := lw_in wsJ50 [319, 313, 315, 317] (by decide +kernel) (by decide +kernel)
/-! java/util/BitSet -/
set_option maxRecDepth 100000
def RJ6 : String := "java/util/BitSet"
def TJ6 : u_T := fun k => match k with
  | 0 => ("java/util/BitSet", "words", "[J", false)
  | 1 => ("java/util/BitSet", "wordsInUse", "I", false)
  | _ => ("java/util/BitSet", "sizeIsSticky", "Z", false)
def tyJ6 : Nat → FieldType := fun k => match k with
  | 0 => .array .long
  | 1 => .int
  | _ => .boolean
abbrev wsJ60 : List Cond := u_ws RJ6 TJ6 3
theorem nmJ6 : ∀ a, a < 3 → ∀ b, b < 3 → a ≠ b → (TJ6 a).2.1 ≠ (TJ6 b).2.1 := by decide +kernel
theorem tyJ6_ok : ∀ k, k < 3 → parseFieldDescriptor (TJ6 k).2.2.1 = some (tyJ6 k) := by decide +kernel
abbrev cJ6_init : ByteArray := prog_51_method_4_code
def yJ6_init : MethodName := ⟨RJ6, "<init>", "()V"⟩
def dkwJ6_init_1 : List UInt8 := [181, 0, 24, 177]
abbrev dktJ6_init_1 : List UInt8 := dkwJ6_init_1 ++ []
def dkwJ6_init_0 : List UInt8 := [42, 183, 0, 21, 42, 3, 181, 0, 7, 42, 3, 181, 0, 24, 42, 16, 64, 182, 0, 27, 42, 3]
abbrev dktJ6_init_0 : List UInt8 := dkwJ6_init_0 ++ dktJ6_init_1
theorem dksJ6_init_0 : cJ6_init.data.toList.drop 0 = dktJ6_init_0 := by decide +kernel
theorem dksJ6_init_1 : cJ6_init.data.toList.drop 22 = dktJ6_init_1 := dk_seg dksJ6_init_0 22 rfl rfl
theorem dJ6_init_0 : decode cJ6_init 0 = .ok (.aload_n 0, 1) := dk_42 (dk_at dksJ6_init_0 0 rfl rfl)
theorem dJ6_init_1 : decode cJ6_init 1 = .ok (.invokespecial 21, 3) := dk_183 0 21 (dk_at dksJ6_init_0 1 rfl rfl)
theorem dJ6_init_4 : decode cJ6_init 4 = .ok (.aload_n 0, 1) := dk_42 (dk_at dksJ6_init_0 4 rfl rfl)
theorem dJ6_init_5 : decode cJ6_init 5 = .ok (.iconst 0, 1) := dk_3 (dk_at dksJ6_init_0 5 rfl rfl)
theorem dJ6_init_6 : decode cJ6_init 6 = .ok (.putfield 7, 3) := dk_181 0 7 (dk_at dksJ6_init_0 6 rfl rfl)
theorem dJ6_init_9 : decode cJ6_init 9 = .ok (.aload_n 0, 1) := dk_42 (dk_at dksJ6_init_0 9 rfl rfl)
theorem dJ6_init_10 : decode cJ6_init 10 = .ok (.iconst 0, 1) := dk_3 (dk_at dksJ6_init_0 10 rfl rfl)
theorem dJ6_init_11 : decode cJ6_init 11 = .ok (.putfield 24, 3) := dk_181 0 24 (dk_at dksJ6_init_0 11 rfl rfl)
theorem dJ6_init_14 : decode cJ6_init 14 = .ok (.aload_n 0, 1) := dk_42 (dk_at dksJ6_init_0 14 rfl rfl)
theorem dJ6_init_15 : decode cJ6_init 15 = .ok (.bipush 64, 2) := dk_16 64 (dk_at dksJ6_init_0 15 rfl rfl)
theorem dJ6_init_17 : decode cJ6_init 17 = .ok (.invokevirtual 27, 3) := dk_182 0 27 (dk_at dksJ6_init_0 17 rfl rfl)
theorem dJ6_init_20 : decode cJ6_init 20 = .ok (.aload_n 0, 1) := dk_42 (dk_at dksJ6_init_0 20 rfl rfl)
theorem dJ6_init_21 : decode cJ6_init 21 = .ok (.iconst 0, 1) := dk_3 (dk_at dksJ6_init_0 21 rfl rfl)
theorem dJ6_init_22 : decode cJ6_init 22 = .ok (.putfield 24, 3) := dk_181 0 24 (dk_at dksJ6_init_1 0 rfl rfl)
theorem dJ6_init_25 : decode cJ6_init 25 = .ok (.return_, 1) := dk_177 (dk_at dksJ6_init_1 3 rfl rfl)
abbrev cJ6_initWords : ByteArray := prog_51_method_6_code
def yJ6_initWords : MethodName := ⟨RJ6, "initWords", "(I)V"⟩
def dkwJ6_initWords_0 : List UInt8 := [42, 27, 4, 100, 184, 0, 52, 4, 96, 188, 11, 181, 0, 11, 177]
abbrev dktJ6_initWords_0 : List UInt8 := dkwJ6_initWords_0 ++ []
theorem dksJ6_initWords_0 : cJ6_initWords.data.toList.drop 0 = dktJ6_initWords_0 := by decide +kernel
theorem dJ6_initWords_0 : decode cJ6_initWords 0 = .ok (.aload_n 0, 1) := dk_42 (dk_at dksJ6_initWords_0 0 rfl rfl)
theorem dJ6_initWords_1 : decode cJ6_initWords 1 = .ok (.iload_n 1, 1) := dk_27 (dk_at dksJ6_initWords_0 1 rfl rfl)
theorem dJ6_initWords_2 : decode cJ6_initWords 2 = .ok (.iconst 1, 1) := dk_4 (dk_at dksJ6_initWords_0 2 rfl rfl)
theorem dJ6_initWords_3 : decode cJ6_initWords 3 = .ok (.isub, 1) := dk_100 (dk_at dksJ6_initWords_0 3 rfl rfl)
theorem dJ6_initWords_4 : decode cJ6_initWords 4 = .ok (.invokestatic 52, 3) := dk_184 0 52 (dk_at dksJ6_initWords_0 4 rfl rfl)
theorem dJ6_initWords_7 : decode cJ6_initWords 7 = .ok (.iconst 1, 1) := dk_4 (dk_at dksJ6_initWords_0 7 rfl rfl)
theorem dJ6_initWords_8 : decode cJ6_initWords 8 = .ok (.iadd, 1) := dk_96 (dk_at dksJ6_initWords_0 8 rfl rfl)
theorem dJ6_initWords_9 : decode cJ6_initWords 9 = .ok (.newarray .long, 2) := dk_188_11 (dk_at dksJ6_initWords_0 9 rfl rfl)
theorem dJ6_initWords_11 : decode cJ6_initWords 11 = .ok (.putfield 11, 3) := dk_181 0 11 (dk_at dksJ6_initWords_0 11 rfl rfl)
theorem dJ6_initWords_14 : decode cJ6_initWords 14 = .ok (.return_, 1) := dk_177 (dk_at dksJ6_initWords_0 14 rfl rfl)
abbrev cJ6_wordIndex : ByteArray := prog_51_method_1_code
def yJ6_wordIndex : MethodName := ⟨RJ6, "wordIndex", "(I)I"⟩
def dkwJ6_wordIndex_0 : List UInt8 := [26, 16, 6, 122, 172]
abbrev dktJ6_wordIndex_0 : List UInt8 := dkwJ6_wordIndex_0 ++ []
theorem dksJ6_wordIndex_0 : cJ6_wordIndex.data.toList.drop 0 = dktJ6_wordIndex_0 := by decide +kernel
theorem dJ6_wordIndex_0 : decode cJ6_wordIndex 0 = .ok (.iload_n 0, 1) := dk_26 (dk_at dksJ6_wordIndex_0 0 rfl rfl)
theorem dJ6_wordIndex_1 : decode cJ6_wordIndex 1 = .ok (.bipush 6, 2) := dk_16 6 (dk_at dksJ6_wordIndex_0 1 rfl rfl)
theorem dJ6_wordIndex_3 : decode cJ6_wordIndex 3 = .ok (.ishr, 1) := dk_122 (dk_at dksJ6_wordIndex_0 3 rfl rfl)
theorem dJ6_wordIndex_4 : decode cJ6_wordIndex 4 = .ok (.ireturn, 1) := dk_172 (dk_at dksJ6_wordIndex_0 4 rfl rfl)
abbrev cJ6_set : ByteArray := prog_51_method_20_code
def yJ6_set : MethodName := ⟨RJ6, "set", "(IZ)V"⟩
def dkwJ6_set_0 : List UInt8 := [28, 153, 0, 11, 42, 27, 182, 0, 167, 167, 0, 8, 42, 27, 182, 0, 170, 177]
abbrev dktJ6_set_0 : List UInt8 := dkwJ6_set_0 ++ []
theorem dksJ6_set_0 : cJ6_set.data.toList.drop 0 = dktJ6_set_0 := by decide +kernel
theorem dJ6_set_0 : decode cJ6_set 0 = .ok (.iload_n 2, 1) := dk_28 (dk_at dksJ6_set_0 0 rfl rfl)
theorem dJ6_set_1 : decode cJ6_set 1 = .ok (.ifCond .eq 11, 3) := dk_153 0 11 (dk_at dksJ6_set_0 1 rfl rfl)
theorem dJ6_set_4 : decode cJ6_set 4 = .ok (.aload_n 0, 1) := dk_42 (dk_at dksJ6_set_0 4 rfl rfl)
theorem dJ6_set_5 : decode cJ6_set 5 = .ok (.iload_n 1, 1) := dk_27 (dk_at dksJ6_set_0 5 rfl rfl)
theorem dJ6_set_6 : decode cJ6_set 6 = .ok (.invokevirtual 167, 3) := dk_182 0 167 (dk_at dksJ6_set_0 6 rfl rfl)
theorem dJ6_set_9 : decode cJ6_set 9 = .ok (.goto 8, 3) := dk_167 0 8 (dk_at dksJ6_set_0 9 rfl rfl)
theorem dJ6_set_12 : decode cJ6_set 12 = .ok (.aload_n 0, 1) := dk_42 (dk_at dksJ6_set_0 12 rfl rfl)
theorem dJ6_set_13 : decode cJ6_set 13 = .ok (.iload_n 1, 1) := dk_27 (dk_at dksJ6_set_0 13 rfl rfl)
theorem dJ6_set_14 : decode cJ6_set 14 = .ok (.invokevirtual 170, 3) := dk_182 0 170 (dk_at dksJ6_set_0 14 rfl rfl)
theorem dJ6_set_17 : decode cJ6_set 17 = .ok (.return_, 1) := dk_177 (dk_at dksJ6_set_0 17 rfl rfl)
abbrev cJ6_set_2 : ByteArray := prog_51_method_19_code
def yJ6_set_2 : MethodName := ⟨RJ6, "set", "(I)V"⟩
def dkwJ6_set_2_2 : List UInt8 := [10, 27, 121, 129, 80, 42, 182, 0, 56, 177]
abbrev dktJ6_set_2_2 : List UInt8 := dkwJ6_set_2_2 ++ []
def dkwJ6_set_2_1 : List UInt8 := [182, 0, 45, 183, 0, 146, 191, 27, 184, 0, 52, 61, 42, 28, 182, 0, 155, 42, 180, 0, 11, 28, 92, 47]
abbrev dktJ6_set_2_1 : List UInt8 := dkwJ6_set_2_1 ++ dktJ6_set_2_2
def dkwJ6_set_2_0 : List UInt8 := [27, 156, 0, 30, 187, 0, 142, 89, 187, 0, 33, 89, 183, 0, 35, 18, 153, 182, 0, 38, 27, 182, 0, 42]
abbrev dktJ6_set_2_0 : List UInt8 := dkwJ6_set_2_0 ++ dktJ6_set_2_1
theorem dksJ6_set_2_0 : cJ6_set_2.data.toList.drop 0 = dktJ6_set_2_0 := by decide +kernel
theorem dksJ6_set_2_1 : cJ6_set_2.data.toList.drop 24 = dktJ6_set_2_1 := dk_seg dksJ6_set_2_0 24 rfl rfl
theorem dksJ6_set_2_2 : cJ6_set_2.data.toList.drop 48 = dktJ6_set_2_2 := dk_seg dksJ6_set_2_1 24 rfl rfl
theorem dJ6_set_2_0 : decode cJ6_set_2 0 = .ok (.iload_n 1, 1) := dk_27 (dk_at dksJ6_set_2_0 0 rfl rfl)
theorem dJ6_set_2_1 : decode cJ6_set_2 1 = .ok (.ifCond .ge 30, 3) := dk_156 0 30 (dk_at dksJ6_set_2_0 1 rfl rfl)
theorem dJ6_set_2_4 : decode cJ6_set_2 4 = .ok (.new 142, 3) := dk_187 0 142 (dk_at dksJ6_set_2_0 4 rfl rfl)
theorem dJ6_set_2_7 : decode cJ6_set_2 7 = .ok (.dup, 1) := dk_89 (dk_at dksJ6_set_2_0 7 rfl rfl)
theorem dJ6_set_2_8 : decode cJ6_set_2 8 = .ok (.new 33, 3) := dk_187 0 33 (dk_at dksJ6_set_2_0 8 rfl rfl)
theorem dJ6_set_2_11 : decode cJ6_set_2 11 = .ok (.dup, 1) := dk_89 (dk_at dksJ6_set_2_0 11 rfl rfl)
theorem dJ6_set_2_12 : decode cJ6_set_2 12 = .ok (.invokespecial 35, 3) := dk_183 0 35 (dk_at dksJ6_set_2_0 12 rfl rfl)
theorem dJ6_set_2_15 : decode cJ6_set_2 15 = .ok (.ldc 153, 2) := dk_18 153 (dk_at dksJ6_set_2_0 15 rfl rfl)
theorem dJ6_set_2_17 : decode cJ6_set_2 17 = .ok (.invokevirtual 38, 3) := dk_182 0 38 (dk_at dksJ6_set_2_0 17 rfl rfl)
theorem dJ6_set_2_20 : decode cJ6_set_2 20 = .ok (.iload_n 1, 1) := dk_27 (dk_at dksJ6_set_2_0 20 rfl rfl)
theorem dJ6_set_2_21 : decode cJ6_set_2 21 = .ok (.invokevirtual 42, 3) := dk_182 0 42 (dk_at dksJ6_set_2_0 21 rfl rfl)
theorem dJ6_set_2_24 : decode cJ6_set_2 24 = .ok (.invokevirtual 45, 3) := dk_182 0 45 (dk_at dksJ6_set_2_1 0 rfl rfl)
theorem dJ6_set_2_27 : decode cJ6_set_2 27 = .ok (.invokespecial 146, 3) := dk_183 0 146 (dk_at dksJ6_set_2_1 3 rfl rfl)
theorem dJ6_set_2_30 : decode cJ6_set_2 30 = .ok (.athrow, 1) := dk_191 (dk_at dksJ6_set_2_1 6 rfl rfl)
theorem dJ6_set_2_31 : decode cJ6_set_2 31 = .ok (.iload_n 1, 1) := dk_27 (dk_at dksJ6_set_2_1 7 rfl rfl)
theorem dJ6_set_2_32 : decode cJ6_set_2 32 = .ok (.invokestatic 52, 3) := dk_184 0 52 (dk_at dksJ6_set_2_1 8 rfl rfl)
theorem dJ6_set_2_35 : decode cJ6_set_2 35 = .ok (.istore_n 2, 1) := dk_61 (dk_at dksJ6_set_2_1 11 rfl rfl)
theorem dJ6_set_2_36 : decode cJ6_set_2 36 = .ok (.aload_n 0, 1) := dk_42 (dk_at dksJ6_set_2_1 12 rfl rfl)
theorem dJ6_set_2_37 : decode cJ6_set_2 37 = .ok (.iload_n 2, 1) := dk_28 (dk_at dksJ6_set_2_1 13 rfl rfl)
theorem dJ6_set_2_38 : decode cJ6_set_2 38 = .ok (.invokevirtual 155, 3) := dk_182 0 155 (dk_at dksJ6_set_2_1 14 rfl rfl)
theorem dJ6_set_2_41 : decode cJ6_set_2 41 = .ok (.aload_n 0, 1) := dk_42 (dk_at dksJ6_set_2_1 17 rfl rfl)
theorem dJ6_set_2_42 : decode cJ6_set_2 42 = .ok (.getfield 11, 3) := dk_180 0 11 (dk_at dksJ6_set_2_1 18 rfl rfl)
theorem dJ6_set_2_45 : decode cJ6_set_2 45 = .ok (.iload_n 2, 1) := dk_28 (dk_at dksJ6_set_2_1 21 rfl rfl)
theorem dJ6_set_2_46 : decode cJ6_set_2 46 = .ok (.dup2, 1) := dk_92 (dk_at dksJ6_set_2_1 22 rfl rfl)
theorem dJ6_set_2_47 : decode cJ6_set_2 47 = .ok (.laload, 1) := dk_47 (dk_at dksJ6_set_2_1 23 rfl rfl)
theorem dJ6_set_2_48 : decode cJ6_set_2 48 = .ok (.lconst 1, 1) := dk_10 (dk_at dksJ6_set_2_2 0 rfl rfl)
theorem dJ6_set_2_49 : decode cJ6_set_2 49 = .ok (.iload_n 1, 1) := dk_27 (dk_at dksJ6_set_2_2 1 rfl rfl)
theorem dJ6_set_2_50 : decode cJ6_set_2 50 = .ok (.lshl, 1) := dk_121 (dk_at dksJ6_set_2_2 2 rfl rfl)
theorem dJ6_set_2_51 : decode cJ6_set_2 51 = .ok (.lor, 1) := dk_129 (dk_at dksJ6_set_2_2 3 rfl rfl)
theorem dJ6_set_2_52 : decode cJ6_set_2 52 = .ok (.lastore, 1) := dk_80 (dk_at dksJ6_set_2_2 4 rfl rfl)
theorem dJ6_set_2_53 : decode cJ6_set_2 53 = .ok (.aload_n 0, 1) := dk_42 (dk_at dksJ6_set_2_2 5 rfl rfl)
theorem dJ6_set_2_54 : decode cJ6_set_2 54 = .ok (.invokevirtual 56, 3) := dk_182 0 56 (dk_at dksJ6_set_2_2 6 rfl rfl)
theorem dJ6_set_2_57 : decode cJ6_set_2 57 = .ok (.return_, 1) := dk_177 (dk_at dksJ6_set_2_2 9 rfl rfl)
abbrev cJ6_expandTo : ByteArray := prog_51_method_15_code
def yJ6_expandTo : MethodName := ⟨RJ6, "expandTo", "(I)V"⟩
def dkwJ6_expandTo_0 : List UInt8 := [27, 4, 96, 61, 42, 180, 0, 7, 28, 162, 0, 13, 42, 28, 182, 0, 139, 42, 28, 181, 0, 7, 177]
abbrev dktJ6_expandTo_0 : List UInt8 := dkwJ6_expandTo_0 ++ []
theorem dksJ6_expandTo_0 : cJ6_expandTo.data.toList.drop 0 = dktJ6_expandTo_0 := by decide +kernel
theorem dJ6_expandTo_0 : decode cJ6_expandTo 0 = .ok (.iload_n 1, 1) := dk_27 (dk_at dksJ6_expandTo_0 0 rfl rfl)
theorem dJ6_expandTo_1 : decode cJ6_expandTo 1 = .ok (.iconst 1, 1) := dk_4 (dk_at dksJ6_expandTo_0 1 rfl rfl)
theorem dJ6_expandTo_2 : decode cJ6_expandTo 2 = .ok (.iadd, 1) := dk_96 (dk_at dksJ6_expandTo_0 2 rfl rfl)
theorem dJ6_expandTo_3 : decode cJ6_expandTo 3 = .ok (.istore_n 2, 1) := dk_61 (dk_at dksJ6_expandTo_0 3 rfl rfl)
theorem dJ6_expandTo_4 : decode cJ6_expandTo 4 = .ok (.aload_n 0, 1) := dk_42 (dk_at dksJ6_expandTo_0 4 rfl rfl)
theorem dJ6_expandTo_5 : decode cJ6_expandTo 5 = .ok (.getfield 7, 3) := dk_180 0 7 (dk_at dksJ6_expandTo_0 5 rfl rfl)
theorem dJ6_expandTo_8 : decode cJ6_expandTo 8 = .ok (.iload_n 2, 1) := dk_28 (dk_at dksJ6_expandTo_0 8 rfl rfl)
theorem dJ6_expandTo_9 : decode cJ6_expandTo 9 = .ok (.if_icmp .ge 13, 3) := dk_162 0 13 (dk_at dksJ6_expandTo_0 9 rfl rfl)
theorem dJ6_expandTo_12 : decode cJ6_expandTo 12 = .ok (.aload_n 0, 1) := dk_42 (dk_at dksJ6_expandTo_0 12 rfl rfl)
theorem dJ6_expandTo_13 : decode cJ6_expandTo 13 = .ok (.iload_n 2, 1) := dk_28 (dk_at dksJ6_expandTo_0 13 rfl rfl)
theorem dJ6_expandTo_14 : decode cJ6_expandTo 14 = .ok (.invokevirtual 139, 3) := dk_182 0 139 (dk_at dksJ6_expandTo_0 14 rfl rfl)
theorem dJ6_expandTo_17 : decode cJ6_expandTo 17 = .ok (.aload_n 0, 1) := dk_42 (dk_at dksJ6_expandTo_0 17 rfl rfl)
theorem dJ6_expandTo_18 : decode cJ6_expandTo 18 = .ok (.iload_n 2, 1) := dk_28 (dk_at dksJ6_expandTo_0 18 rfl rfl)
theorem dJ6_expandTo_19 : decode cJ6_expandTo 19 = .ok (.putfield 7, 3) := dk_181 0 7 (dk_at dksJ6_expandTo_0 19 rfl rfl)
theorem dJ6_expandTo_22 : decode cJ6_expandTo 22 = .ok (.return_, 1) := dk_177 (dk_at dksJ6_expandTo_0 22 rfl rfl)
abbrev cJ6_ensureCapacity : ByteArray := prog_51_method_14_code
def yJ6_ensureCapacity : MethodName := ⟨RJ6, "ensureCapacity", "(I)V"⟩
def dkwJ6_ensureCapacity_1 : List UInt8 := [180, 0, 11, 28, 184, 0, 59, 181, 0, 11, 42, 3, 181, 0, 24, 177]
abbrev dktJ6_ensureCapacity_1 : List UInt8 := dkwJ6_ensureCapacity_1 ++ []
def dkwJ6_ensureCapacity_0 : List UInt8 := [42, 180, 0, 11, 190, 27, 162, 0, 32, 5, 42, 180, 0, 11, 190, 104, 27, 184, 0, 133, 61, 42, 42]
abbrev dktJ6_ensureCapacity_0 : List UInt8 := dkwJ6_ensureCapacity_0 ++ dktJ6_ensureCapacity_1
theorem dksJ6_ensureCapacity_0 : cJ6_ensureCapacity.data.toList.drop 0 = dktJ6_ensureCapacity_0 := by decide +kernel
theorem dksJ6_ensureCapacity_1 : cJ6_ensureCapacity.data.toList.drop 23 = dktJ6_ensureCapacity_1 := dk_seg dksJ6_ensureCapacity_0 23 rfl rfl
theorem dJ6_ensureCapacity_0 : decode cJ6_ensureCapacity 0 = .ok (.aload_n 0, 1) := dk_42 (dk_at dksJ6_ensureCapacity_0 0 rfl rfl)
theorem dJ6_ensureCapacity_1 : decode cJ6_ensureCapacity 1 = .ok (.getfield 11, 3) := dk_180 0 11 (dk_at dksJ6_ensureCapacity_0 1 rfl rfl)
theorem dJ6_ensureCapacity_4 : decode cJ6_ensureCapacity 4 = .ok (.arraylength, 1) := dk_190 (dk_at dksJ6_ensureCapacity_0 4 rfl rfl)
theorem dJ6_ensureCapacity_5 : decode cJ6_ensureCapacity 5 = .ok (.iload_n 1, 1) := dk_27 (dk_at dksJ6_ensureCapacity_0 5 rfl rfl)
theorem dJ6_ensureCapacity_6 : decode cJ6_ensureCapacity 6 = .ok (.if_icmp .ge 32, 3) := dk_162 0 32 (dk_at dksJ6_ensureCapacity_0 6 rfl rfl)
theorem dJ6_ensureCapacity_9 : decode cJ6_ensureCapacity 9 = .ok (.iconst 2, 1) := dk_5 (dk_at dksJ6_ensureCapacity_0 9 rfl rfl)
theorem dJ6_ensureCapacity_10 : decode cJ6_ensureCapacity 10 = .ok (.aload_n 0, 1) := dk_42 (dk_at dksJ6_ensureCapacity_0 10 rfl rfl)
theorem dJ6_ensureCapacity_11 : decode cJ6_ensureCapacity 11 = .ok (.getfield 11, 3) := dk_180 0 11 (dk_at dksJ6_ensureCapacity_0 11 rfl rfl)
theorem dJ6_ensureCapacity_14 : decode cJ6_ensureCapacity 14 = .ok (.arraylength, 1) := dk_190 (dk_at dksJ6_ensureCapacity_0 14 rfl rfl)
theorem dJ6_ensureCapacity_15 : decode cJ6_ensureCapacity 15 = .ok (.imul, 1) := dk_104 (dk_at dksJ6_ensureCapacity_0 15 rfl rfl)
theorem dJ6_ensureCapacity_16 : decode cJ6_ensureCapacity 16 = .ok (.iload_n 1, 1) := dk_27 (dk_at dksJ6_ensureCapacity_0 16 rfl rfl)
theorem dJ6_ensureCapacity_17 : decode cJ6_ensureCapacity 17 = .ok (.invokestatic 133, 3) := dk_184 0 133 (dk_at dksJ6_ensureCapacity_0 17 rfl rfl)
theorem dJ6_ensureCapacity_20 : decode cJ6_ensureCapacity 20 = .ok (.istore_n 2, 1) := dk_61 (dk_at dksJ6_ensureCapacity_0 20 rfl rfl)
theorem dJ6_ensureCapacity_21 : decode cJ6_ensureCapacity 21 = .ok (.aload_n 0, 1) := dk_42 (dk_at dksJ6_ensureCapacity_0 21 rfl rfl)
theorem dJ6_ensureCapacity_22 : decode cJ6_ensureCapacity 22 = .ok (.aload_n 0, 1) := dk_42 (dk_at dksJ6_ensureCapacity_0 22 rfl rfl)
theorem dJ6_ensureCapacity_23 : decode cJ6_ensureCapacity 23 = .ok (.getfield 11, 3) := dk_180 0 11 (dk_at dksJ6_ensureCapacity_1 0 rfl rfl)
theorem dJ6_ensureCapacity_26 : decode cJ6_ensureCapacity 26 = .ok (.iload_n 2, 1) := dk_28 (dk_at dksJ6_ensureCapacity_1 3 rfl rfl)
theorem dJ6_ensureCapacity_27 : decode cJ6_ensureCapacity 27 = .ok (.invokestatic 59, 3) := dk_184 0 59 (dk_at dksJ6_ensureCapacity_1 4 rfl rfl)
theorem dJ6_ensureCapacity_30 : decode cJ6_ensureCapacity 30 = .ok (.putfield 11, 3) := dk_181 0 11 (dk_at dksJ6_ensureCapacity_1 7 rfl rfl)
theorem dJ6_ensureCapacity_33 : decode cJ6_ensureCapacity 33 = .ok (.aload_n 0, 1) := dk_42 (dk_at dksJ6_ensureCapacity_1 10 rfl rfl)
theorem dJ6_ensureCapacity_34 : decode cJ6_ensureCapacity 34 = .ok (.iconst 0, 1) := dk_3 (dk_at dksJ6_ensureCapacity_1 11 rfl rfl)
theorem dJ6_ensureCapacity_35 : decode cJ6_ensureCapacity 35 = .ok (.putfield 24, 3) := dk_181 0 24 (dk_at dksJ6_ensureCapacity_1 12 rfl rfl)
theorem dJ6_ensureCapacity_38 : decode cJ6_ensureCapacity 38 = .ok (.return_, 1) := dk_177 (dk_at dksJ6_ensureCapacity_1 15 rfl rfl)
abbrev cJ6_checkInvariants : ByteArray := prog_51_method_2_code
def yJ6_checkInvariants : MethodName := ⟨RJ6, "checkInvariants", "()V"⟩
def dkwJ6_checkInvariants_4 : List UInt8 := [180, 0, 7, 47, 9, 148, 153, 0, 11, 187, 0, 15, 89, 183, 0, 17, 191, 177]
abbrev dktJ6_checkInvariants_4 : List UInt8 := dkwJ6_checkInvariants_4 ++ []
def dkwJ6_checkInvariants_3 : List UInt8 := [178, 0, 3, 154, 0, 37, 42, 180, 0, 7, 42, 180, 0, 11, 190, 159, 0, 25, 42, 180, 0, 11, 42]
abbrev dktJ6_checkInvariants_3 : List UInt8 := dkwJ6_checkInvariants_3 ++ dktJ6_checkInvariants_4
def dkwJ6_checkInvariants_2 : List UInt8 := [155, 0, 15, 42, 180, 0, 7, 42, 180, 0, 11, 190, 164, 0, 11, 187, 0, 15, 89, 183, 0, 17, 191]
abbrev dktJ6_checkInvariants_2 : List UInt8 := dkwJ6_checkInvariants_2 ++ dktJ6_checkInvariants_3
def dkwJ6_checkInvariants_1 : List UInt8 := [9, 148, 154, 0, 11, 187, 0, 15, 89, 183, 0, 17, 191, 178, 0, 3, 154, 0, 30, 42, 180, 0, 7]
abbrev dktJ6_checkInvariants_1 : List UInt8 := dkwJ6_checkInvariants_1 ++ dktJ6_checkInvariants_2
def dkwJ6_checkInvariants_0 : List UInt8 := [178, 0, 3, 154, 0, 34, 42, 180, 0, 7, 153, 0, 27, 42, 180, 0, 11, 42, 180, 0, 7, 4, 100, 47]
abbrev dktJ6_checkInvariants_0 : List UInt8 := dkwJ6_checkInvariants_0 ++ dktJ6_checkInvariants_1
theorem dksJ6_checkInvariants_0 : cJ6_checkInvariants.data.toList.drop 0 = dktJ6_checkInvariants_0 := by decide +kernel
theorem dksJ6_checkInvariants_1 : cJ6_checkInvariants.data.toList.drop 24 = dktJ6_checkInvariants_1 := dk_seg dksJ6_checkInvariants_0 24 rfl rfl
theorem dksJ6_checkInvariants_2 : cJ6_checkInvariants.data.toList.drop 47 = dktJ6_checkInvariants_2 := dk_seg dksJ6_checkInvariants_1 23 rfl rfl
theorem dksJ6_checkInvariants_3 : cJ6_checkInvariants.data.toList.drop 70 = dktJ6_checkInvariants_3 := dk_seg dksJ6_checkInvariants_2 23 rfl rfl
theorem dksJ6_checkInvariants_4 : cJ6_checkInvariants.data.toList.drop 93 = dktJ6_checkInvariants_4 := dk_seg dksJ6_checkInvariants_3 23 rfl rfl
theorem dJ6_checkInvariants_0 : decode cJ6_checkInvariants 0 = .ok (.getstatic 3, 3) := dk_178 0 3 (dk_at dksJ6_checkInvariants_0 0 rfl rfl)
theorem dJ6_checkInvariants_3 : decode cJ6_checkInvariants 3 = .ok (.ifCond .ne 34, 3) := dk_154 0 34 (dk_at dksJ6_checkInvariants_0 3 rfl rfl)
theorem dJ6_checkInvariants_6 : decode cJ6_checkInvariants 6 = .ok (.aload_n 0, 1) := dk_42 (dk_at dksJ6_checkInvariants_0 6 rfl rfl)
theorem dJ6_checkInvariants_7 : decode cJ6_checkInvariants 7 = .ok (.getfield 7, 3) := dk_180 0 7 (dk_at dksJ6_checkInvariants_0 7 rfl rfl)
theorem dJ6_checkInvariants_10 : decode cJ6_checkInvariants 10 = .ok (.ifCond .eq 27, 3) := dk_153 0 27 (dk_at dksJ6_checkInvariants_0 10 rfl rfl)
theorem dJ6_checkInvariants_13 : decode cJ6_checkInvariants 13 = .ok (.aload_n 0, 1) := dk_42 (dk_at dksJ6_checkInvariants_0 13 rfl rfl)
theorem dJ6_checkInvariants_14 : decode cJ6_checkInvariants 14 = .ok (.getfield 11, 3) := dk_180 0 11 (dk_at dksJ6_checkInvariants_0 14 rfl rfl)
theorem dJ6_checkInvariants_17 : decode cJ6_checkInvariants 17 = .ok (.aload_n 0, 1) := dk_42 (dk_at dksJ6_checkInvariants_0 17 rfl rfl)
theorem dJ6_checkInvariants_18 : decode cJ6_checkInvariants 18 = .ok (.getfield 7, 3) := dk_180 0 7 (dk_at dksJ6_checkInvariants_0 18 rfl rfl)
theorem dJ6_checkInvariants_21 : decode cJ6_checkInvariants 21 = .ok (.iconst 1, 1) := dk_4 (dk_at dksJ6_checkInvariants_0 21 rfl rfl)
theorem dJ6_checkInvariants_22 : decode cJ6_checkInvariants 22 = .ok (.isub, 1) := dk_100 (dk_at dksJ6_checkInvariants_0 22 rfl rfl)
theorem dJ6_checkInvariants_23 : decode cJ6_checkInvariants 23 = .ok (.laload, 1) := dk_47 (dk_at dksJ6_checkInvariants_0 23 rfl rfl)
theorem dJ6_checkInvariants_24 : decode cJ6_checkInvariants 24 = .ok (.lconst 0, 1) := dk_9 (dk_at dksJ6_checkInvariants_1 0 rfl rfl)
theorem dJ6_checkInvariants_25 : decode cJ6_checkInvariants 25 = .ok (.lcmp, 1) := dk_148 (dk_at dksJ6_checkInvariants_1 1 rfl rfl)
theorem dJ6_checkInvariants_26 : decode cJ6_checkInvariants 26 = .ok (.ifCond .ne 11, 3) := dk_154 0 11 (dk_at dksJ6_checkInvariants_1 2 rfl rfl)
theorem dJ6_checkInvariants_29 : decode cJ6_checkInvariants 29 = .ok (.new 15, 3) := dk_187 0 15 (dk_at dksJ6_checkInvariants_1 5 rfl rfl)
theorem dJ6_checkInvariants_32 : decode cJ6_checkInvariants 32 = .ok (.dup, 1) := dk_89 (dk_at dksJ6_checkInvariants_1 8 rfl rfl)
theorem dJ6_checkInvariants_33 : decode cJ6_checkInvariants 33 = .ok (.invokespecial 17, 3) := dk_183 0 17 (dk_at dksJ6_checkInvariants_1 9 rfl rfl)
theorem dJ6_checkInvariants_36 : decode cJ6_checkInvariants 36 = .ok (.athrow, 1) := dk_191 (dk_at dksJ6_checkInvariants_1 12 rfl rfl)
theorem dJ6_checkInvariants_37 : decode cJ6_checkInvariants 37 = .ok (.getstatic 3, 3) := dk_178 0 3 (dk_at dksJ6_checkInvariants_1 13 rfl rfl)
theorem dJ6_checkInvariants_40 : decode cJ6_checkInvariants 40 = .ok (.ifCond .ne 30, 3) := dk_154 0 30 (dk_at dksJ6_checkInvariants_1 16 rfl rfl)
theorem dJ6_checkInvariants_43 : decode cJ6_checkInvariants 43 = .ok (.aload_n 0, 1) := dk_42 (dk_at dksJ6_checkInvariants_1 19 rfl rfl)
theorem dJ6_checkInvariants_44 : decode cJ6_checkInvariants 44 = .ok (.getfield 7, 3) := dk_180 0 7 (dk_at dksJ6_checkInvariants_1 20 rfl rfl)
theorem dJ6_checkInvariants_47 : decode cJ6_checkInvariants 47 = .ok (.ifCond .lt 15, 3) := dk_155 0 15 (dk_at dksJ6_checkInvariants_2 0 rfl rfl)
theorem dJ6_checkInvariants_50 : decode cJ6_checkInvariants 50 = .ok (.aload_n 0, 1) := dk_42 (dk_at dksJ6_checkInvariants_2 3 rfl rfl)
theorem dJ6_checkInvariants_51 : decode cJ6_checkInvariants 51 = .ok (.getfield 7, 3) := dk_180 0 7 (dk_at dksJ6_checkInvariants_2 4 rfl rfl)
theorem dJ6_checkInvariants_54 : decode cJ6_checkInvariants 54 = .ok (.aload_n 0, 1) := dk_42 (dk_at dksJ6_checkInvariants_2 7 rfl rfl)
theorem dJ6_checkInvariants_55 : decode cJ6_checkInvariants 55 = .ok (.getfield 11, 3) := dk_180 0 11 (dk_at dksJ6_checkInvariants_2 8 rfl rfl)
theorem dJ6_checkInvariants_58 : decode cJ6_checkInvariants 58 = .ok (.arraylength, 1) := dk_190 (dk_at dksJ6_checkInvariants_2 11 rfl rfl)
theorem dJ6_checkInvariants_59 : decode cJ6_checkInvariants 59 = .ok (.if_icmp .le 11, 3) := dk_164 0 11 (dk_at dksJ6_checkInvariants_2 12 rfl rfl)
theorem dJ6_checkInvariants_62 : decode cJ6_checkInvariants 62 = .ok (.new 15, 3) := dk_187 0 15 (dk_at dksJ6_checkInvariants_2 15 rfl rfl)
theorem dJ6_checkInvariants_65 : decode cJ6_checkInvariants 65 = .ok (.dup, 1) := dk_89 (dk_at dksJ6_checkInvariants_2 18 rfl rfl)
theorem dJ6_checkInvariants_66 : decode cJ6_checkInvariants 66 = .ok (.invokespecial 17, 3) := dk_183 0 17 (dk_at dksJ6_checkInvariants_2 19 rfl rfl)
theorem dJ6_checkInvariants_69 : decode cJ6_checkInvariants 69 = .ok (.athrow, 1) := dk_191 (dk_at dksJ6_checkInvariants_2 22 rfl rfl)
theorem dJ6_checkInvariants_70 : decode cJ6_checkInvariants 70 = .ok (.getstatic 3, 3) := dk_178 0 3 (dk_at dksJ6_checkInvariants_3 0 rfl rfl)
theorem dJ6_checkInvariants_73 : decode cJ6_checkInvariants 73 = .ok (.ifCond .ne 37, 3) := dk_154 0 37 (dk_at dksJ6_checkInvariants_3 3 rfl rfl)
theorem dJ6_checkInvariants_76 : decode cJ6_checkInvariants 76 = .ok (.aload_n 0, 1) := dk_42 (dk_at dksJ6_checkInvariants_3 6 rfl rfl)
theorem dJ6_checkInvariants_77 : decode cJ6_checkInvariants 77 = .ok (.getfield 7, 3) := dk_180 0 7 (dk_at dksJ6_checkInvariants_3 7 rfl rfl)
theorem dJ6_checkInvariants_80 : decode cJ6_checkInvariants 80 = .ok (.aload_n 0, 1) := dk_42 (dk_at dksJ6_checkInvariants_3 10 rfl rfl)
theorem dJ6_checkInvariants_81 : decode cJ6_checkInvariants 81 = .ok (.getfield 11, 3) := dk_180 0 11 (dk_at dksJ6_checkInvariants_3 11 rfl rfl)
theorem dJ6_checkInvariants_84 : decode cJ6_checkInvariants 84 = .ok (.arraylength, 1) := dk_190 (dk_at dksJ6_checkInvariants_3 14 rfl rfl)
theorem dJ6_checkInvariants_85 : decode cJ6_checkInvariants 85 = .ok (.if_icmp .eq 25, 3) := dk_159 0 25 (dk_at dksJ6_checkInvariants_3 15 rfl rfl)
theorem dJ6_checkInvariants_88 : decode cJ6_checkInvariants 88 = .ok (.aload_n 0, 1) := dk_42 (dk_at dksJ6_checkInvariants_3 18 rfl rfl)
theorem dJ6_checkInvariants_89 : decode cJ6_checkInvariants 89 = .ok (.getfield 11, 3) := dk_180 0 11 (dk_at dksJ6_checkInvariants_3 19 rfl rfl)
theorem dJ6_checkInvariants_92 : decode cJ6_checkInvariants 92 = .ok (.aload_n 0, 1) := dk_42 (dk_at dksJ6_checkInvariants_3 22 rfl rfl)
theorem dJ6_checkInvariants_93 : decode cJ6_checkInvariants 93 = .ok (.getfield 7, 3) := dk_180 0 7 (dk_at dksJ6_checkInvariants_4 0 rfl rfl)
theorem dJ6_checkInvariants_96 : decode cJ6_checkInvariants 96 = .ok (.laload, 1) := dk_47 (dk_at dksJ6_checkInvariants_4 3 rfl rfl)
theorem dJ6_checkInvariants_97 : decode cJ6_checkInvariants 97 = .ok (.lconst 0, 1) := dk_9 (dk_at dksJ6_checkInvariants_4 4 rfl rfl)
theorem dJ6_checkInvariants_98 : decode cJ6_checkInvariants 98 = .ok (.lcmp, 1) := dk_148 (dk_at dksJ6_checkInvariants_4 5 rfl rfl)
theorem dJ6_checkInvariants_99 : decode cJ6_checkInvariants 99 = .ok (.ifCond .eq 11, 3) := dk_153 0 11 (dk_at dksJ6_checkInvariants_4 6 rfl rfl)
theorem dJ6_checkInvariants_102 : decode cJ6_checkInvariants 102 = .ok (.new 15, 3) := dk_187 0 15 (dk_at dksJ6_checkInvariants_4 9 rfl rfl)
theorem dJ6_checkInvariants_105 : decode cJ6_checkInvariants 105 = .ok (.dup, 1) := dk_89 (dk_at dksJ6_checkInvariants_4 12 rfl rfl)
theorem dJ6_checkInvariants_106 : decode cJ6_checkInvariants 106 = .ok (.invokespecial 17, 3) := dk_183 0 17 (dk_at dksJ6_checkInvariants_4 13 rfl rfl)
theorem dJ6_checkInvariants_109 : decode cJ6_checkInvariants 109 = .ok (.athrow, 1) := dk_191 (dk_at dksJ6_checkInvariants_4 16 rfl rfl)
theorem dJ6_checkInvariants_110 : decode cJ6_checkInvariants 110 = .ok (.return_, 1) := dk_177 (dk_at dksJ6_checkInvariants_4 17 rfl rfl)
abbrev cJ6_clear : ByteArray := prog_51_method_23_code
def yJ6_clear : MethodName := ⟨RJ6, "clear", "(I)V"⟩
def dkwJ6_clear_2 : List UInt8 := [180, 0, 11, 28, 92, 47, 10, 27, 121, 20, 0, 165, 131, 127, 80, 42, 182, 0, 158, 42, 182, 0, 56, 177]
abbrev dktJ6_clear_2 : List UInt8 := dkwJ6_clear_2 ++ []
def dkwJ6_clear_1 : List UInt8 := [182, 0, 45, 183, 0, 146, 191, 27, 184, 0, 52, 61, 28, 42, 180, 0, 7, 161, 0, 4, 177, 42]
abbrev dktJ6_clear_1 : List UInt8 := dkwJ6_clear_1 ++ dktJ6_clear_2
def dkwJ6_clear_0 : List UInt8 := [27, 156, 0, 30, 187, 0, 142, 89, 187, 0, 33, 89, 183, 0, 35, 18, 153, 182, 0, 38, 27, 182, 0, 42]
abbrev dktJ6_clear_0 : List UInt8 := dkwJ6_clear_0 ++ dktJ6_clear_1
theorem dksJ6_clear_0 : cJ6_clear.data.toList.drop 0 = dktJ6_clear_0 := by decide +kernel
theorem dksJ6_clear_1 : cJ6_clear.data.toList.drop 24 = dktJ6_clear_1 := dk_seg dksJ6_clear_0 24 rfl rfl
theorem dksJ6_clear_2 : cJ6_clear.data.toList.drop 46 = dktJ6_clear_2 := dk_seg dksJ6_clear_1 22 rfl rfl
theorem dJ6_clear_0 : decode cJ6_clear 0 = .ok (.iload_n 1, 1) := dk_27 (dk_at dksJ6_clear_0 0 rfl rfl)
theorem dJ6_clear_1 : decode cJ6_clear 1 = .ok (.ifCond .ge 30, 3) := dk_156 0 30 (dk_at dksJ6_clear_0 1 rfl rfl)
theorem dJ6_clear_4 : decode cJ6_clear 4 = .ok (.new 142, 3) := dk_187 0 142 (dk_at dksJ6_clear_0 4 rfl rfl)
theorem dJ6_clear_7 : decode cJ6_clear 7 = .ok (.dup, 1) := dk_89 (dk_at dksJ6_clear_0 7 rfl rfl)
theorem dJ6_clear_8 : decode cJ6_clear 8 = .ok (.new 33, 3) := dk_187 0 33 (dk_at dksJ6_clear_0 8 rfl rfl)
theorem dJ6_clear_11 : decode cJ6_clear 11 = .ok (.dup, 1) := dk_89 (dk_at dksJ6_clear_0 11 rfl rfl)
theorem dJ6_clear_12 : decode cJ6_clear 12 = .ok (.invokespecial 35, 3) := dk_183 0 35 (dk_at dksJ6_clear_0 12 rfl rfl)
theorem dJ6_clear_15 : decode cJ6_clear 15 = .ok (.ldc 153, 2) := dk_18 153 (dk_at dksJ6_clear_0 15 rfl rfl)
theorem dJ6_clear_17 : decode cJ6_clear 17 = .ok (.invokevirtual 38, 3) := dk_182 0 38 (dk_at dksJ6_clear_0 17 rfl rfl)
theorem dJ6_clear_20 : decode cJ6_clear 20 = .ok (.iload_n 1, 1) := dk_27 (dk_at dksJ6_clear_0 20 rfl rfl)
theorem dJ6_clear_21 : decode cJ6_clear 21 = .ok (.invokevirtual 42, 3) := dk_182 0 42 (dk_at dksJ6_clear_0 21 rfl rfl)
theorem dJ6_clear_24 : decode cJ6_clear 24 = .ok (.invokevirtual 45, 3) := dk_182 0 45 (dk_at dksJ6_clear_1 0 rfl rfl)
theorem dJ6_clear_27 : decode cJ6_clear 27 = .ok (.invokespecial 146, 3) := dk_183 0 146 (dk_at dksJ6_clear_1 3 rfl rfl)
theorem dJ6_clear_30 : decode cJ6_clear 30 = .ok (.athrow, 1) := dk_191 (dk_at dksJ6_clear_1 6 rfl rfl)
theorem dJ6_clear_31 : decode cJ6_clear 31 = .ok (.iload_n 1, 1) := dk_27 (dk_at dksJ6_clear_1 7 rfl rfl)
theorem dJ6_clear_32 : decode cJ6_clear 32 = .ok (.invokestatic 52, 3) := dk_184 0 52 (dk_at dksJ6_clear_1 8 rfl rfl)
theorem dJ6_clear_35 : decode cJ6_clear 35 = .ok (.istore_n 2, 1) := dk_61 (dk_at dksJ6_clear_1 11 rfl rfl)
theorem dJ6_clear_36 : decode cJ6_clear 36 = .ok (.iload_n 2, 1) := dk_28 (dk_at dksJ6_clear_1 12 rfl rfl)
theorem dJ6_clear_37 : decode cJ6_clear 37 = .ok (.aload_n 0, 1) := dk_42 (dk_at dksJ6_clear_1 13 rfl rfl)
theorem dJ6_clear_38 : decode cJ6_clear 38 = .ok (.getfield 7, 3) := dk_180 0 7 (dk_at dksJ6_clear_1 14 rfl rfl)
theorem dJ6_clear_41 : decode cJ6_clear 41 = .ok (.if_icmp .lt 4, 3) := dk_161 0 4 (dk_at dksJ6_clear_1 17 rfl rfl)
theorem dJ6_clear_44 : decode cJ6_clear 44 = .ok (.return_, 1) := dk_177 (dk_at dksJ6_clear_1 20 rfl rfl)
theorem dJ6_clear_45 : decode cJ6_clear 45 = .ok (.aload_n 0, 1) := dk_42 (dk_at dksJ6_clear_1 21 rfl rfl)
theorem dJ6_clear_46 : decode cJ6_clear 46 = .ok (.getfield 11, 3) := dk_180 0 11 (dk_at dksJ6_clear_2 0 rfl rfl)
theorem dJ6_clear_49 : decode cJ6_clear 49 = .ok (.iload_n 2, 1) := dk_28 (dk_at dksJ6_clear_2 3 rfl rfl)
theorem dJ6_clear_50 : decode cJ6_clear 50 = .ok (.dup2, 1) := dk_92 (dk_at dksJ6_clear_2 4 rfl rfl)
theorem dJ6_clear_51 : decode cJ6_clear 51 = .ok (.laload, 1) := dk_47 (dk_at dksJ6_clear_2 5 rfl rfl)
theorem dJ6_clear_52 : decode cJ6_clear 52 = .ok (.lconst 1, 1) := dk_10 (dk_at dksJ6_clear_2 6 rfl rfl)
theorem dJ6_clear_53 : decode cJ6_clear 53 = .ok (.iload_n 1, 1) := dk_27 (dk_at dksJ6_clear_2 7 rfl rfl)
theorem dJ6_clear_54 : decode cJ6_clear 54 = .ok (.lshl, 1) := dk_121 (dk_at dksJ6_clear_2 8 rfl rfl)
theorem dJ6_clear_55 : decode cJ6_clear 55 = .ok (.ldc2_w 165, 3) := dk_20 0 165 (dk_at dksJ6_clear_2 9 rfl rfl)
theorem dJ6_clear_58 : decode cJ6_clear 58 = .ok (.lxor, 1) := dk_131 (dk_at dksJ6_clear_2 12 rfl rfl)
theorem dJ6_clear_59 : decode cJ6_clear 59 = .ok (.land, 1) := dk_127 (dk_at dksJ6_clear_2 13 rfl rfl)
theorem dJ6_clear_60 : decode cJ6_clear 60 = .ok (.lastore, 1) := dk_80 (dk_at dksJ6_clear_2 14 rfl rfl)
theorem dJ6_clear_61 : decode cJ6_clear 61 = .ok (.aload_n 0, 1) := dk_42 (dk_at dksJ6_clear_2 15 rfl rfl)
theorem dJ6_clear_62 : decode cJ6_clear 62 = .ok (.invokevirtual 158, 3) := dk_182 0 158 (dk_at dksJ6_clear_2 16 rfl rfl)
theorem dJ6_clear_65 : decode cJ6_clear 65 = .ok (.aload_n 0, 1) := dk_42 (dk_at dksJ6_clear_2 19 rfl rfl)
theorem dJ6_clear_66 : decode cJ6_clear 66 = .ok (.invokevirtual 56, 3) := dk_182 0 56 (dk_at dksJ6_clear_2 20 rfl rfl)
theorem dJ6_clear_69 : decode cJ6_clear 69 = .ok (.return_, 1) := dk_177 (dk_at dksJ6_clear_2 23 rfl rfl)
abbrev cJ6_recalculateWordsInUse : ByteArray := prog_51_method_3_code
def yJ6_recalculateWordsInUse : MethodName := ⟨RJ6, "recalculateWordsInUse", "()V"⟩
def dkwJ6_recalculateWordsInUse_1 : List UInt8 := [167, 0, 9, 132, 1, 255, 167, 255, 235, 42, 27, 4, 96, 181, 0, 7, 177]
abbrev dktJ6_recalculateWordsInUse_1 : List UInt8 := dkwJ6_recalculateWordsInUse_1 ++ []
def dkwJ6_recalculateWordsInUse_0 : List UInt8 := [42, 180, 0, 7, 4, 100, 60, 27, 155, 0, 23, 42, 180, 0, 11, 27, 47, 9, 148, 153, 0, 6]
abbrev dktJ6_recalculateWordsInUse_0 : List UInt8 := dkwJ6_recalculateWordsInUse_0 ++ dktJ6_recalculateWordsInUse_1
theorem dksJ6_recalculateWordsInUse_0 : cJ6_recalculateWordsInUse.data.toList.drop 0 = dktJ6_recalculateWordsInUse_0 := by decide +kernel
theorem dksJ6_recalculateWordsInUse_1 : cJ6_recalculateWordsInUse.data.toList.drop 22 = dktJ6_recalculateWordsInUse_1 := dk_seg dksJ6_recalculateWordsInUse_0 22 rfl rfl
theorem dJ6_recalculateWordsInUse_0 : decode cJ6_recalculateWordsInUse 0 = .ok (.aload_n 0, 1) := dk_42 (dk_at dksJ6_recalculateWordsInUse_0 0 rfl rfl)
theorem dJ6_recalculateWordsInUse_1 : decode cJ6_recalculateWordsInUse 1 = .ok (.getfield 7, 3) := dk_180 0 7 (dk_at dksJ6_recalculateWordsInUse_0 1 rfl rfl)
theorem dJ6_recalculateWordsInUse_4 : decode cJ6_recalculateWordsInUse 4 = .ok (.iconst 1, 1) := dk_4 (dk_at dksJ6_recalculateWordsInUse_0 4 rfl rfl)
theorem dJ6_recalculateWordsInUse_5 : decode cJ6_recalculateWordsInUse 5 = .ok (.isub, 1) := dk_100 (dk_at dksJ6_recalculateWordsInUse_0 5 rfl rfl)
theorem dJ6_recalculateWordsInUse_6 : decode cJ6_recalculateWordsInUse 6 = .ok (.istore_n 1, 1) := dk_60 (dk_at dksJ6_recalculateWordsInUse_0 6 rfl rfl)
theorem dJ6_recalculateWordsInUse_7 : decode cJ6_recalculateWordsInUse 7 = .ok (.iload_n 1, 1) := dk_27 (dk_at dksJ6_recalculateWordsInUse_0 7 rfl rfl)
theorem dJ6_recalculateWordsInUse_8 : decode cJ6_recalculateWordsInUse 8 = .ok (.ifCond .lt 23, 3) := dk_155 0 23 (dk_at dksJ6_recalculateWordsInUse_0 8 rfl rfl)
theorem dJ6_recalculateWordsInUse_11 : decode cJ6_recalculateWordsInUse 11 = .ok (.aload_n 0, 1) := dk_42 (dk_at dksJ6_recalculateWordsInUse_0 11 rfl rfl)
theorem dJ6_recalculateWordsInUse_12 : decode cJ6_recalculateWordsInUse 12 = .ok (.getfield 11, 3) := dk_180 0 11 (dk_at dksJ6_recalculateWordsInUse_0 12 rfl rfl)
theorem dJ6_recalculateWordsInUse_15 : decode cJ6_recalculateWordsInUse 15 = .ok (.iload_n 1, 1) := dk_27 (dk_at dksJ6_recalculateWordsInUse_0 15 rfl rfl)
theorem dJ6_recalculateWordsInUse_16 : decode cJ6_recalculateWordsInUse 16 = .ok (.laload, 1) := dk_47 (dk_at dksJ6_recalculateWordsInUse_0 16 rfl rfl)
theorem dJ6_recalculateWordsInUse_17 : decode cJ6_recalculateWordsInUse 17 = .ok (.lconst 0, 1) := dk_9 (dk_at dksJ6_recalculateWordsInUse_0 17 rfl rfl)
theorem dJ6_recalculateWordsInUse_18 : decode cJ6_recalculateWordsInUse 18 = .ok (.lcmp, 1) := dk_148 (dk_at dksJ6_recalculateWordsInUse_0 18 rfl rfl)
theorem dJ6_recalculateWordsInUse_19 : decode cJ6_recalculateWordsInUse 19 = .ok (.ifCond .eq 6, 3) := dk_153 0 6 (dk_at dksJ6_recalculateWordsInUse_0 19 rfl rfl)
theorem dJ6_recalculateWordsInUse_22 : decode cJ6_recalculateWordsInUse 22 = .ok (.goto 9, 3) := dk_167 0 9 (dk_at dksJ6_recalculateWordsInUse_1 0 rfl rfl)
theorem dJ6_recalculateWordsInUse_25 : decode cJ6_recalculateWordsInUse 25 = .ok (.iinc 1 (-1), 3) := dk_132 1 255 (dk_at dksJ6_recalculateWordsInUse_1 3 rfl rfl)
theorem dJ6_recalculateWordsInUse_28 : decode cJ6_recalculateWordsInUse 28 = .ok (.goto (-21), 3) := dk_167 255 235 (dk_at dksJ6_recalculateWordsInUse_1 6 rfl rfl)
theorem dJ6_recalculateWordsInUse_31 : decode cJ6_recalculateWordsInUse 31 = .ok (.aload_n 0, 1) := dk_42 (dk_at dksJ6_recalculateWordsInUse_1 9 rfl rfl)
theorem dJ6_recalculateWordsInUse_32 : decode cJ6_recalculateWordsInUse 32 = .ok (.iload_n 1, 1) := dk_27 (dk_at dksJ6_recalculateWordsInUse_1 10 rfl rfl)
theorem dJ6_recalculateWordsInUse_33 : decode cJ6_recalculateWordsInUse 33 = .ok (.iconst 1, 1) := dk_4 (dk_at dksJ6_recalculateWordsInUse_1 11 rfl rfl)
theorem dJ6_recalculateWordsInUse_34 : decode cJ6_recalculateWordsInUse 34 = .ok (.iadd, 1) := dk_96 (dk_at dksJ6_recalculateWordsInUse_1 12 rfl rfl)
theorem dJ6_recalculateWordsInUse_35 : decode cJ6_recalculateWordsInUse 35 = .ok (.putfield 7, 3) := dk_181 0 7 (dk_at dksJ6_recalculateWordsInUse_1 13 rfl rfl)
theorem dJ6_recalculateWordsInUse_38 : decode cJ6_recalculateWordsInUse 38 = .ok (.return_, 1) := dk_177 (dk_at dksJ6_recalculateWordsInUse_1 16 rfl rfl)
abbrev cJ6_get : ByteArray := prog_51_method_26_code
def yJ6_get : MethodName := ⟨RJ6, "get", "(I)Z"⟩
def dkwJ6_get_2 : List UInt8 := [42, 180, 0, 11, 28, 47, 10, 27, 121, 127, 9, 148, 153, 0, 7, 4, 167, 0, 4, 3, 172]
abbrev dktJ6_get_2 : List UInt8 := dkwJ6_get_2 ++ []
def dkwJ6_get_1 : List UInt8 := [182, 0, 45, 183, 0, 146, 191, 42, 182, 0, 56, 27, 184, 0, 52, 61, 28, 42, 180, 0, 7, 162, 0, 22]
abbrev dktJ6_get_1 : List UInt8 := dkwJ6_get_1 ++ dktJ6_get_2
def dkwJ6_get_0 : List UInt8 := [27, 156, 0, 30, 187, 0, 142, 89, 187, 0, 33, 89, 183, 0, 35, 18, 153, 182, 0, 38, 27, 182, 0, 42]
abbrev dktJ6_get_0 : List UInt8 := dkwJ6_get_0 ++ dktJ6_get_1
theorem dksJ6_get_0 : cJ6_get.data.toList.drop 0 = dktJ6_get_0 := by decide +kernel
theorem dksJ6_get_1 : cJ6_get.data.toList.drop 24 = dktJ6_get_1 := dk_seg dksJ6_get_0 24 rfl rfl
theorem dksJ6_get_2 : cJ6_get.data.toList.drop 48 = dktJ6_get_2 := dk_seg dksJ6_get_1 24 rfl rfl
theorem dJ6_get_0 : decode cJ6_get 0 = .ok (.iload_n 1, 1) := dk_27 (dk_at dksJ6_get_0 0 rfl rfl)
theorem dJ6_get_1 : decode cJ6_get 1 = .ok (.ifCond .ge 30, 3) := dk_156 0 30 (dk_at dksJ6_get_0 1 rfl rfl)
theorem dJ6_get_4 : decode cJ6_get 4 = .ok (.new 142, 3) := dk_187 0 142 (dk_at dksJ6_get_0 4 rfl rfl)
theorem dJ6_get_7 : decode cJ6_get 7 = .ok (.dup, 1) := dk_89 (dk_at dksJ6_get_0 7 rfl rfl)
theorem dJ6_get_8 : decode cJ6_get 8 = .ok (.new 33, 3) := dk_187 0 33 (dk_at dksJ6_get_0 8 rfl rfl)
theorem dJ6_get_11 : decode cJ6_get 11 = .ok (.dup, 1) := dk_89 (dk_at dksJ6_get_0 11 rfl rfl)
theorem dJ6_get_12 : decode cJ6_get 12 = .ok (.invokespecial 35, 3) := dk_183 0 35 (dk_at dksJ6_get_0 12 rfl rfl)
theorem dJ6_get_15 : decode cJ6_get 15 = .ok (.ldc 153, 2) := dk_18 153 (dk_at dksJ6_get_0 15 rfl rfl)
theorem dJ6_get_17 : decode cJ6_get 17 = .ok (.invokevirtual 38, 3) := dk_182 0 38 (dk_at dksJ6_get_0 17 rfl rfl)
theorem dJ6_get_20 : decode cJ6_get 20 = .ok (.iload_n 1, 1) := dk_27 (dk_at dksJ6_get_0 20 rfl rfl)
theorem dJ6_get_21 : decode cJ6_get 21 = .ok (.invokevirtual 42, 3) := dk_182 0 42 (dk_at dksJ6_get_0 21 rfl rfl)
theorem dJ6_get_24 : decode cJ6_get 24 = .ok (.invokevirtual 45, 3) := dk_182 0 45 (dk_at dksJ6_get_1 0 rfl rfl)
theorem dJ6_get_27 : decode cJ6_get 27 = .ok (.invokespecial 146, 3) := dk_183 0 146 (dk_at dksJ6_get_1 3 rfl rfl)
theorem dJ6_get_30 : decode cJ6_get 30 = .ok (.athrow, 1) := dk_191 (dk_at dksJ6_get_1 6 rfl rfl)
theorem dJ6_get_31 : decode cJ6_get 31 = .ok (.aload_n 0, 1) := dk_42 (dk_at dksJ6_get_1 7 rfl rfl)
theorem dJ6_get_32 : decode cJ6_get 32 = .ok (.invokevirtual 56, 3) := dk_182 0 56 (dk_at dksJ6_get_1 8 rfl rfl)
theorem dJ6_get_35 : decode cJ6_get 35 = .ok (.iload_n 1, 1) := dk_27 (dk_at dksJ6_get_1 11 rfl rfl)
theorem dJ6_get_36 : decode cJ6_get 36 = .ok (.invokestatic 52, 3) := dk_184 0 52 (dk_at dksJ6_get_1 12 rfl rfl)
theorem dJ6_get_39 : decode cJ6_get 39 = .ok (.istore_n 2, 1) := dk_61 (dk_at dksJ6_get_1 15 rfl rfl)
theorem dJ6_get_40 : decode cJ6_get 40 = .ok (.iload_n 2, 1) := dk_28 (dk_at dksJ6_get_1 16 rfl rfl)
theorem dJ6_get_41 : decode cJ6_get 41 = .ok (.aload_n 0, 1) := dk_42 (dk_at dksJ6_get_1 17 rfl rfl)
theorem dJ6_get_42 : decode cJ6_get 42 = .ok (.getfield 7, 3) := dk_180 0 7 (dk_at dksJ6_get_1 18 rfl rfl)
theorem dJ6_get_45 : decode cJ6_get 45 = .ok (.if_icmp .ge 22, 3) := dk_162 0 22 (dk_at dksJ6_get_1 21 rfl rfl)
theorem dJ6_get_48 : decode cJ6_get 48 = .ok (.aload_n 0, 1) := dk_42 (dk_at dksJ6_get_2 0 rfl rfl)
theorem dJ6_get_49 : decode cJ6_get 49 = .ok (.getfield 11, 3) := dk_180 0 11 (dk_at dksJ6_get_2 1 rfl rfl)
theorem dJ6_get_52 : decode cJ6_get 52 = .ok (.iload_n 2, 1) := dk_28 (dk_at dksJ6_get_2 4 rfl rfl)
theorem dJ6_get_53 : decode cJ6_get 53 = .ok (.laload, 1) := dk_47 (dk_at dksJ6_get_2 5 rfl rfl)
theorem dJ6_get_54 : decode cJ6_get 54 = .ok (.lconst 1, 1) := dk_10 (dk_at dksJ6_get_2 6 rfl rfl)
theorem dJ6_get_55 : decode cJ6_get 55 = .ok (.iload_n 1, 1) := dk_27 (dk_at dksJ6_get_2 7 rfl rfl)
theorem dJ6_get_56 : decode cJ6_get 56 = .ok (.lshl, 1) := dk_121 (dk_at dksJ6_get_2 8 rfl rfl)
theorem dJ6_get_57 : decode cJ6_get 57 = .ok (.land, 1) := dk_127 (dk_at dksJ6_get_2 9 rfl rfl)
theorem dJ6_get_58 : decode cJ6_get 58 = .ok (.lconst 0, 1) := dk_9 (dk_at dksJ6_get_2 10 rfl rfl)
theorem dJ6_get_59 : decode cJ6_get 59 = .ok (.lcmp, 1) := dk_148 (dk_at dksJ6_get_2 11 rfl rfl)
theorem dJ6_get_60 : decode cJ6_get 60 = .ok (.ifCond .eq 7, 3) := dk_153 0 7 (dk_at dksJ6_get_2 12 rfl rfl)
theorem dJ6_get_63 : decode cJ6_get 63 = .ok (.iconst 1, 1) := dk_4 (dk_at dksJ6_get_2 15 rfl rfl)
theorem dJ6_get_64 : decode cJ6_get 64 = .ok (.goto 4, 3) := dk_167 0 4 (dk_at dksJ6_get_2 16 rfl rfl)
theorem dJ6_get_67 : decode cJ6_get 67 = .ok (.iconst 0, 1) := dk_3 (dk_at dksJ6_get_2 19 rfl rfl)
theorem dJ6_get_68 : decode cJ6_get 68 = .ok (.ireturn, 1) := dk_172 (dk_at dksJ6_get_2 20 rfl rfl)
abbrev cJ6_cardinality : ByteArray := prog_51_method_35_code
def yJ6_cardinality : MethodName := ⟨RJ6, "cardinality", "()I"⟩
def dkwJ6_cardinality_1 : List UInt8 := [132, 2, 1, 167, 255, 233, 27, 172]
abbrev dktJ6_cardinality_1 : List UInt8 := dkwJ6_cardinality_1 ++ []
def dkwJ6_cardinality_0 : List UInt8 := [3, 60, 3, 61, 28, 42, 180, 0, 7, 162, 0, 21, 27, 42, 180, 0, 11, 28, 47, 184, 0, 196, 96, 60]
abbrev dktJ6_cardinality_0 : List UInt8 := dkwJ6_cardinality_0 ++ dktJ6_cardinality_1
theorem dksJ6_cardinality_0 : cJ6_cardinality.data.toList.drop 0 = dktJ6_cardinality_0 := by decide +kernel
theorem dksJ6_cardinality_1 : cJ6_cardinality.data.toList.drop 24 = dktJ6_cardinality_1 := dk_seg dksJ6_cardinality_0 24 rfl rfl
theorem dJ6_cardinality_0 : decode cJ6_cardinality 0 = .ok (.iconst 0, 1) := dk_3 (dk_at dksJ6_cardinality_0 0 rfl rfl)
theorem dJ6_cardinality_1 : decode cJ6_cardinality 1 = .ok (.istore_n 1, 1) := dk_60 (dk_at dksJ6_cardinality_0 1 rfl rfl)
theorem dJ6_cardinality_2 : decode cJ6_cardinality 2 = .ok (.iconst 0, 1) := dk_3 (dk_at dksJ6_cardinality_0 2 rfl rfl)
theorem dJ6_cardinality_3 : decode cJ6_cardinality 3 = .ok (.istore_n 2, 1) := dk_61 (dk_at dksJ6_cardinality_0 3 rfl rfl)
theorem dJ6_cardinality_4 : decode cJ6_cardinality 4 = .ok (.iload_n 2, 1) := dk_28 (dk_at dksJ6_cardinality_0 4 rfl rfl)
theorem dJ6_cardinality_5 : decode cJ6_cardinality 5 = .ok (.aload_n 0, 1) := dk_42 (dk_at dksJ6_cardinality_0 5 rfl rfl)
theorem dJ6_cardinality_6 : decode cJ6_cardinality 6 = .ok (.getfield 7, 3) := dk_180 0 7 (dk_at dksJ6_cardinality_0 6 rfl rfl)
theorem dJ6_cardinality_9 : decode cJ6_cardinality 9 = .ok (.if_icmp .ge 21, 3) := dk_162 0 21 (dk_at dksJ6_cardinality_0 9 rfl rfl)
theorem dJ6_cardinality_12 : decode cJ6_cardinality 12 = .ok (.iload_n 1, 1) := dk_27 (dk_at dksJ6_cardinality_0 12 rfl rfl)
theorem dJ6_cardinality_13 : decode cJ6_cardinality 13 = .ok (.aload_n 0, 1) := dk_42 (dk_at dksJ6_cardinality_0 13 rfl rfl)
theorem dJ6_cardinality_14 : decode cJ6_cardinality 14 = .ok (.getfield 11, 3) := dk_180 0 11 (dk_at dksJ6_cardinality_0 14 rfl rfl)
theorem dJ6_cardinality_17 : decode cJ6_cardinality 17 = .ok (.iload_n 2, 1) := dk_28 (dk_at dksJ6_cardinality_0 17 rfl rfl)
theorem dJ6_cardinality_18 : decode cJ6_cardinality 18 = .ok (.laload, 1) := dk_47 (dk_at dksJ6_cardinality_0 18 rfl rfl)
theorem dJ6_cardinality_19 : decode cJ6_cardinality 19 = .ok (.invokestatic 196, 3) := dk_184 0 196 (dk_at dksJ6_cardinality_0 19 rfl rfl)
theorem dJ6_cardinality_22 : decode cJ6_cardinality 22 = .ok (.iadd, 1) := dk_96 (dk_at dksJ6_cardinality_0 22 rfl rfl)
theorem dJ6_cardinality_23 : decode cJ6_cardinality 23 = .ok (.istore_n 1, 1) := dk_60 (dk_at dksJ6_cardinality_0 23 rfl rfl)
theorem dJ6_cardinality_24 : decode cJ6_cardinality 24 = .ok (.iinc 2 1, 3) := dk_132 2 1 (dk_at dksJ6_cardinality_1 0 rfl rfl)
theorem dJ6_cardinality_27 : decode cJ6_cardinality 27 = .ok (.goto (-23), 3) := dk_167 255 233 (dk_at dksJ6_cardinality_1 3 rfl rfl)
theorem dJ6_cardinality_30 : decode cJ6_cardinality 30 = .ok (.iload_n 1, 1) := dk_27 (dk_at dksJ6_cardinality_1 6 rfl rfl)
theorem dJ6_cardinality_31 : decode cJ6_cardinality 31 = .ok (.ireturn, 1) := dk_172 (dk_at dksJ6_cardinality_1 7 rfl rfl)
abbrev cJ6_nextSetBit : ByteArray := prog_51_method_28_code
def yJ6_nextSetBit : MethodName := ⟨RJ6, "nextSetBit", "(I)I"⟩
def dkwJ6_nextSetBit_4 : List UInt8 := [28, 47, 66, 167, 255, 220]
abbrev dktJ6_nextSetBit_4 : List UInt8 := dkwJ6_nextSetBit_4 ++ []
def dkwJ6_nextSetBit_3 : List UInt8 := [104, 33, 184, 0, 182, 96, 172, 132, 2, 1, 28, 42, 180, 0, 7, 160, 0, 5, 2, 172, 42, 180, 0, 11]
abbrev dktJ6_nextSetBit_3 : List UInt8 := dkwJ6_nextSetBit_3 ++ dktJ6_nextSetBit_4
def dkwJ6_nextSetBit_2 : List UInt8 := [2, 172, 42, 180, 0, 11, 28, 47, 20, 0, 165, 27, 121, 127, 66, 33, 9, 148, 153, 0, 13, 28, 16, 64]
abbrev dktJ6_nextSetBit_2 : List UInt8 := dkwJ6_nextSetBit_2 ++ dktJ6_nextSetBit_3
def dkwJ6_nextSetBit_1 : List UInt8 := [182, 0, 45, 183, 0, 146, 191, 42, 182, 0, 56, 27, 184, 0, 52, 61, 28, 42, 180, 0, 7, 161, 0, 5]
abbrev dktJ6_nextSetBit_1 : List UInt8 := dkwJ6_nextSetBit_1 ++ dktJ6_nextSetBit_2
def dkwJ6_nextSetBit_0 : List UInt8 := [27, 156, 0, 30, 187, 0, 142, 89, 187, 0, 33, 89, 183, 0, 35, 18, 144, 182, 0, 38, 27, 182, 0, 42]
abbrev dktJ6_nextSetBit_0 : List UInt8 := dkwJ6_nextSetBit_0 ++ dktJ6_nextSetBit_1
theorem dksJ6_nextSetBit_0 : cJ6_nextSetBit.data.toList.drop 0 = dktJ6_nextSetBit_0 := by decide +kernel
theorem dksJ6_nextSetBit_1 : cJ6_nextSetBit.data.toList.drop 24 = dktJ6_nextSetBit_1 := dk_seg dksJ6_nextSetBit_0 24 rfl rfl
theorem dksJ6_nextSetBit_2 : cJ6_nextSetBit.data.toList.drop 48 = dktJ6_nextSetBit_2 := dk_seg dksJ6_nextSetBit_1 24 rfl rfl
theorem dksJ6_nextSetBit_3 : cJ6_nextSetBit.data.toList.drop 72 = dktJ6_nextSetBit_3 := dk_seg dksJ6_nextSetBit_2 24 rfl rfl
theorem dksJ6_nextSetBit_4 : cJ6_nextSetBit.data.toList.drop 96 = dktJ6_nextSetBit_4 := dk_seg dksJ6_nextSetBit_3 24 rfl rfl
theorem dJ6_nextSetBit_0 : decode cJ6_nextSetBit 0 = .ok (.iload_n 1, 1) := dk_27 (dk_at dksJ6_nextSetBit_0 0 rfl rfl)
theorem dJ6_nextSetBit_1 : decode cJ6_nextSetBit 1 = .ok (.ifCond .ge 30, 3) := dk_156 0 30 (dk_at dksJ6_nextSetBit_0 1 rfl rfl)
theorem dJ6_nextSetBit_4 : decode cJ6_nextSetBit 4 = .ok (.new 142, 3) := dk_187 0 142 (dk_at dksJ6_nextSetBit_0 4 rfl rfl)
theorem dJ6_nextSetBit_7 : decode cJ6_nextSetBit 7 = .ok (.dup, 1) := dk_89 (dk_at dksJ6_nextSetBit_0 7 rfl rfl)
theorem dJ6_nextSetBit_8 : decode cJ6_nextSetBit 8 = .ok (.new 33, 3) := dk_187 0 33 (dk_at dksJ6_nextSetBit_0 8 rfl rfl)
theorem dJ6_nextSetBit_11 : decode cJ6_nextSetBit 11 = .ok (.dup, 1) := dk_89 (dk_at dksJ6_nextSetBit_0 11 rfl rfl)
theorem dJ6_nextSetBit_12 : decode cJ6_nextSetBit 12 = .ok (.invokespecial 35, 3) := dk_183 0 35 (dk_at dksJ6_nextSetBit_0 12 rfl rfl)
theorem dJ6_nextSetBit_15 : decode cJ6_nextSetBit 15 = .ok (.ldc 144, 2) := dk_18 144 (dk_at dksJ6_nextSetBit_0 15 rfl rfl)
theorem dJ6_nextSetBit_17 : decode cJ6_nextSetBit 17 = .ok (.invokevirtual 38, 3) := dk_182 0 38 (dk_at dksJ6_nextSetBit_0 17 rfl rfl)
theorem dJ6_nextSetBit_20 : decode cJ6_nextSetBit 20 = .ok (.iload_n 1, 1) := dk_27 (dk_at dksJ6_nextSetBit_0 20 rfl rfl)
theorem dJ6_nextSetBit_21 : decode cJ6_nextSetBit 21 = .ok (.invokevirtual 42, 3) := dk_182 0 42 (dk_at dksJ6_nextSetBit_0 21 rfl rfl)
theorem dJ6_nextSetBit_24 : decode cJ6_nextSetBit 24 = .ok (.invokevirtual 45, 3) := dk_182 0 45 (dk_at dksJ6_nextSetBit_1 0 rfl rfl)
theorem dJ6_nextSetBit_27 : decode cJ6_nextSetBit 27 = .ok (.invokespecial 146, 3) := dk_183 0 146 (dk_at dksJ6_nextSetBit_1 3 rfl rfl)
theorem dJ6_nextSetBit_30 : decode cJ6_nextSetBit 30 = .ok (.athrow, 1) := dk_191 (dk_at dksJ6_nextSetBit_1 6 rfl rfl)
theorem dJ6_nextSetBit_31 : decode cJ6_nextSetBit 31 = .ok (.aload_n 0, 1) := dk_42 (dk_at dksJ6_nextSetBit_1 7 rfl rfl)
theorem dJ6_nextSetBit_32 : decode cJ6_nextSetBit 32 = .ok (.invokevirtual 56, 3) := dk_182 0 56 (dk_at dksJ6_nextSetBit_1 8 rfl rfl)
theorem dJ6_nextSetBit_35 : decode cJ6_nextSetBit 35 = .ok (.iload_n 1, 1) := dk_27 (dk_at dksJ6_nextSetBit_1 11 rfl rfl)
theorem dJ6_nextSetBit_36 : decode cJ6_nextSetBit 36 = .ok (.invokestatic 52, 3) := dk_184 0 52 (dk_at dksJ6_nextSetBit_1 12 rfl rfl)
theorem dJ6_nextSetBit_39 : decode cJ6_nextSetBit 39 = .ok (.istore_n 2, 1) := dk_61 (dk_at dksJ6_nextSetBit_1 15 rfl rfl)
theorem dJ6_nextSetBit_40 : decode cJ6_nextSetBit 40 = .ok (.iload_n 2, 1) := dk_28 (dk_at dksJ6_nextSetBit_1 16 rfl rfl)
theorem dJ6_nextSetBit_41 : decode cJ6_nextSetBit 41 = .ok (.aload_n 0, 1) := dk_42 (dk_at dksJ6_nextSetBit_1 17 rfl rfl)
theorem dJ6_nextSetBit_42 : decode cJ6_nextSetBit 42 = .ok (.getfield 7, 3) := dk_180 0 7 (dk_at dksJ6_nextSetBit_1 18 rfl rfl)
theorem dJ6_nextSetBit_45 : decode cJ6_nextSetBit 45 = .ok (.if_icmp .lt 5, 3) := dk_161 0 5 (dk_at dksJ6_nextSetBit_1 21 rfl rfl)
theorem dJ6_nextSetBit_48 : decode cJ6_nextSetBit 48 = .ok (.iconst (-1), 1) := dk_2 (dk_at dksJ6_nextSetBit_2 0 rfl rfl)
theorem dJ6_nextSetBit_49 : decode cJ6_nextSetBit 49 = .ok (.ireturn, 1) := dk_172 (dk_at dksJ6_nextSetBit_2 1 rfl rfl)
theorem dJ6_nextSetBit_50 : decode cJ6_nextSetBit 50 = .ok (.aload_n 0, 1) := dk_42 (dk_at dksJ6_nextSetBit_2 2 rfl rfl)
theorem dJ6_nextSetBit_51 : decode cJ6_nextSetBit 51 = .ok (.getfield 11, 3) := dk_180 0 11 (dk_at dksJ6_nextSetBit_2 3 rfl rfl)
theorem dJ6_nextSetBit_54 : decode cJ6_nextSetBit 54 = .ok (.iload_n 2, 1) := dk_28 (dk_at dksJ6_nextSetBit_2 6 rfl rfl)
theorem dJ6_nextSetBit_55 : decode cJ6_nextSetBit 55 = .ok (.laload, 1) := dk_47 (dk_at dksJ6_nextSetBit_2 7 rfl rfl)
theorem dJ6_nextSetBit_56 : decode cJ6_nextSetBit 56 = .ok (.ldc2_w 165, 3) := dk_20 0 165 (dk_at dksJ6_nextSetBit_2 8 rfl rfl)
theorem dJ6_nextSetBit_59 : decode cJ6_nextSetBit 59 = .ok (.iload_n 1, 1) := dk_27 (dk_at dksJ6_nextSetBit_2 11 rfl rfl)
theorem dJ6_nextSetBit_60 : decode cJ6_nextSetBit 60 = .ok (.lshl, 1) := dk_121 (dk_at dksJ6_nextSetBit_2 12 rfl rfl)
theorem dJ6_nextSetBit_61 : decode cJ6_nextSetBit 61 = .ok (.land, 1) := dk_127 (dk_at dksJ6_nextSetBit_2 13 rfl rfl)
theorem dJ6_nextSetBit_62 : decode cJ6_nextSetBit 62 = .ok (.lstore_n 3, 1) := dk_66 (dk_at dksJ6_nextSetBit_2 14 rfl rfl)
theorem dJ6_nextSetBit_63 : decode cJ6_nextSetBit 63 = .ok (.lload_n 3, 1) := dk_33 (dk_at dksJ6_nextSetBit_2 15 rfl rfl)
theorem dJ6_nextSetBit_64 : decode cJ6_nextSetBit 64 = .ok (.lconst 0, 1) := dk_9 (dk_at dksJ6_nextSetBit_2 16 rfl rfl)
theorem dJ6_nextSetBit_65 : decode cJ6_nextSetBit 65 = .ok (.lcmp, 1) := dk_148 (dk_at dksJ6_nextSetBit_2 17 rfl rfl)
theorem dJ6_nextSetBit_66 : decode cJ6_nextSetBit 66 = .ok (.ifCond .eq 13, 3) := dk_153 0 13 (dk_at dksJ6_nextSetBit_2 18 rfl rfl)
theorem dJ6_nextSetBit_69 : decode cJ6_nextSetBit 69 = .ok (.iload_n 2, 1) := dk_28 (dk_at dksJ6_nextSetBit_2 21 rfl rfl)
theorem dJ6_nextSetBit_70 : decode cJ6_nextSetBit 70 = .ok (.bipush 64, 2) := dk_16 64 (dk_at dksJ6_nextSetBit_2 22 rfl rfl)
theorem dJ6_nextSetBit_72 : decode cJ6_nextSetBit 72 = .ok (.imul, 1) := dk_104 (dk_at dksJ6_nextSetBit_3 0 rfl rfl)
theorem dJ6_nextSetBit_73 : decode cJ6_nextSetBit 73 = .ok (.lload_n 3, 1) := dk_33 (dk_at dksJ6_nextSetBit_3 1 rfl rfl)
theorem dJ6_nextSetBit_74 : decode cJ6_nextSetBit 74 = .ok (.invokestatic 182, 3) := dk_184 0 182 (dk_at dksJ6_nextSetBit_3 2 rfl rfl)
theorem dJ6_nextSetBit_77 : decode cJ6_nextSetBit 77 = .ok (.iadd, 1) := dk_96 (dk_at dksJ6_nextSetBit_3 5 rfl rfl)
theorem dJ6_nextSetBit_78 : decode cJ6_nextSetBit 78 = .ok (.ireturn, 1) := dk_172 (dk_at dksJ6_nextSetBit_3 6 rfl rfl)
theorem dJ6_nextSetBit_79 : decode cJ6_nextSetBit 79 = .ok (.iinc 2 1, 3) := dk_132 2 1 (dk_at dksJ6_nextSetBit_3 7 rfl rfl)
theorem dJ6_nextSetBit_82 : decode cJ6_nextSetBit 82 = .ok (.iload_n 2, 1) := dk_28 (dk_at dksJ6_nextSetBit_3 10 rfl rfl)
theorem dJ6_nextSetBit_83 : decode cJ6_nextSetBit 83 = .ok (.aload_n 0, 1) := dk_42 (dk_at dksJ6_nextSetBit_3 11 rfl rfl)
theorem dJ6_nextSetBit_84 : decode cJ6_nextSetBit 84 = .ok (.getfield 7, 3) := dk_180 0 7 (dk_at dksJ6_nextSetBit_3 12 rfl rfl)
theorem dJ6_nextSetBit_87 : decode cJ6_nextSetBit 87 = .ok (.if_icmp .ne 5, 3) := dk_160 0 5 (dk_at dksJ6_nextSetBit_3 15 rfl rfl)
theorem dJ6_nextSetBit_90 : decode cJ6_nextSetBit 90 = .ok (.iconst (-1), 1) := dk_2 (dk_at dksJ6_nextSetBit_3 18 rfl rfl)
theorem dJ6_nextSetBit_91 : decode cJ6_nextSetBit 91 = .ok (.ireturn, 1) := dk_172 (dk_at dksJ6_nextSetBit_3 19 rfl rfl)
theorem dJ6_nextSetBit_92 : decode cJ6_nextSetBit 92 = .ok (.aload_n 0, 1) := dk_42 (dk_at dksJ6_nextSetBit_3 20 rfl rfl)
theorem dJ6_nextSetBit_93 : decode cJ6_nextSetBit 93 = .ok (.getfield 11, 3) := dk_180 0 11 (dk_at dksJ6_nextSetBit_3 21 rfl rfl)
theorem dJ6_nextSetBit_96 : decode cJ6_nextSetBit 96 = .ok (.iload_n 2, 1) := dk_28 (dk_at dksJ6_nextSetBit_4 0 rfl rfl)
theorem dJ6_nextSetBit_97 : decode cJ6_nextSetBit 97 = .ok (.laload, 1) := dk_47 (dk_at dksJ6_nextSetBit_4 1 rfl rfl)
theorem dJ6_nextSetBit_98 : decode cJ6_nextSetBit 98 = .ok (.lstore_n 3, 1) := dk_66 (dk_at dksJ6_nextSetBit_4 2 rfl rfl)
theorem dJ6_nextSetBit_99 : decode cJ6_nextSetBit 99 = .ok (.goto (-36), 3) := dk_167 255 220 (dk_at dksJ6_nextSetBit_4 3 rfl rfl)
abbrev cJ6_clear_2 : ByteArray := prog_51_method_25_code
def yJ6_clear_2 : MethodName := ⟨RJ6, "clear", "()V"⟩
def dkwJ6_clear_2_1 : List UInt8 := [167, 255, 232, 177]
abbrev dktJ6_clear_2_1 : List UInt8 := dkwJ6_clear_2_1 ++ []
def dkwJ6_clear_2_0 : List UInt8 := [42, 180, 0, 7, 158, 0, 23, 42, 180, 0, 11, 42, 89, 180, 0, 7, 4, 100, 90, 181, 0, 7, 9, 80]
abbrev dktJ6_clear_2_0 : List UInt8 := dkwJ6_clear_2_0 ++ dktJ6_clear_2_1
theorem dksJ6_clear_2_0 : cJ6_clear_2.data.toList.drop 0 = dktJ6_clear_2_0 := by decide +kernel
theorem dksJ6_clear_2_1 : cJ6_clear_2.data.toList.drop 24 = dktJ6_clear_2_1 := dk_seg dksJ6_clear_2_0 24 rfl rfl
theorem dJ6_clear_2_0 : decode cJ6_clear_2 0 = .ok (.aload_n 0, 1) := dk_42 (dk_at dksJ6_clear_2_0 0 rfl rfl)
theorem dJ6_clear_2_1 : decode cJ6_clear_2 1 = .ok (.getfield 7, 3) := dk_180 0 7 (dk_at dksJ6_clear_2_0 1 rfl rfl)
theorem dJ6_clear_2_4 : decode cJ6_clear_2 4 = .ok (.ifCond .le 23, 3) := dk_158 0 23 (dk_at dksJ6_clear_2_0 4 rfl rfl)
theorem dJ6_clear_2_7 : decode cJ6_clear_2 7 = .ok (.aload_n 0, 1) := dk_42 (dk_at dksJ6_clear_2_0 7 rfl rfl)
theorem dJ6_clear_2_8 : decode cJ6_clear_2 8 = .ok (.getfield 11, 3) := dk_180 0 11 (dk_at dksJ6_clear_2_0 8 rfl rfl)
theorem dJ6_clear_2_11 : decode cJ6_clear_2 11 = .ok (.aload_n 0, 1) := dk_42 (dk_at dksJ6_clear_2_0 11 rfl rfl)
theorem dJ6_clear_2_12 : decode cJ6_clear_2 12 = .ok (.dup, 1) := dk_89 (dk_at dksJ6_clear_2_0 12 rfl rfl)
theorem dJ6_clear_2_13 : decode cJ6_clear_2 13 = .ok (.getfield 7, 3) := dk_180 0 7 (dk_at dksJ6_clear_2_0 13 rfl rfl)
theorem dJ6_clear_2_16 : decode cJ6_clear_2 16 = .ok (.iconst 1, 1) := dk_4 (dk_at dksJ6_clear_2_0 16 rfl rfl)
theorem dJ6_clear_2_17 : decode cJ6_clear_2 17 = .ok (.isub, 1) := dk_100 (dk_at dksJ6_clear_2_0 17 rfl rfl)
theorem dJ6_clear_2_18 : decode cJ6_clear_2 18 = .ok (.dup_x1, 1) := dk_90 (dk_at dksJ6_clear_2_0 18 rfl rfl)
theorem dJ6_clear_2_19 : decode cJ6_clear_2 19 = .ok (.putfield 7, 3) := dk_181 0 7 (dk_at dksJ6_clear_2_0 19 rfl rfl)
theorem dJ6_clear_2_22 : decode cJ6_clear_2 22 = .ok (.lconst 0, 1) := dk_9 (dk_at dksJ6_clear_2_0 22 rfl rfl)
theorem dJ6_clear_2_23 : decode cJ6_clear_2 23 = .ok (.lastore, 1) := dk_80 (dk_at dksJ6_clear_2_0 23 rfl rfl)
theorem dJ6_clear_2_24 : decode cJ6_clear_2 24 = .ok (.goto (-24), 3) := dk_167 255 232 (dk_at dksJ6_clear_2_1 0 rfl rfl)
theorem dJ6_clear_2_27 : decode cJ6_clear_2 27 = .ok (.return_, 1) := dk_177 (dk_at dksJ6_clear_2_1 3 rfl rfl)
theorem q141 : (Jvm.Cond.initialized "java/util/BitSet") ∈ lw_all := lw_g (lw_at lw_m1 10 rfl) rfl
theorem q322 : (Jvm.Cond.instantiable "java/util/BitSet" (3 : Nat)) ∈ lw_all := lw_g (lw_at lw_m1 191 rfl) rfl
theorem q324 : (Jvm.Cond.instanceMethod ({ cls := "java/util/BitSet", name := "<init>", desc := "()V" } : Jvm.MethodName)) ∈ lw_all := lw_g (lw_at lw_m1 193 rfl) rfl
theorem q325 : (Jvm.Cond.code ({ cls := "java/util/BitSet", name := "<init>", desc := "()V" } : Jvm.MethodName) prog_51_method_4_code (1 : Nat) (Option.none : Option Jvm.ClassFile.FieldType)) ∈ lw_all := lw_g (lw_at lw_m1 194 rfl) rfl
theorem q326 : (Jvm.Cond.methodLink "java/util/BitSet" (21 : Nat) ({ cls := "java/lang/Object", name := "<init>", desc := "()V" } : Jvm.MethodName)) ∈ lw_all := lw_g (lw_at lw_m1 195 rfl) rfl
theorem q327 : (Jvm.Cond.methodLink "java/util/BitSet" (27 : Nat) ({ cls := "java/util/BitSet", name := "initWords", desc := "(I)V" } : Jvm.MethodName)) ∈ lw_all := lw_g (lw_at lw_m1 196 rfl) rfl
theorem q328 : (Jvm.Cond.privateMethod ({ cls := "java/util/BitSet", name := "initWords", desc := "(I)V" } : Jvm.MethodName)) ∈ lw_tbl := lw_at lw_m1 197 rfl
theorem q329 : (Jvm.Cond.instanceMethod ({ cls := "java/util/BitSet", name := "initWords", desc := "(I)V" } : Jvm.MethodName)) ∈ lw_all := lw_g (lw_at lw_m1 198 rfl) rfl
theorem q330 : (Jvm.Cond.code ({ cls := "java/util/BitSet", name := "initWords", desc := "(I)V" } : Jvm.MethodName) prog_51_method_6_code (2 : Nat) (Option.none : Option Jvm.ClassFile.FieldType)) ∈ lw_all := lw_g (lw_at lw_m1 199 rfl) rfl
theorem q331 : (Jvm.Cond.methodLink "java/util/BitSet" (52 : Nat) ({ cls := "java/util/BitSet", name := "wordIndex", desc := "(I)I" } : Jvm.MethodName)) ∈ lw_all := lw_g (lw_at lw_m1 200 rfl) rfl
theorem q332 : (Jvm.Cond.static ({ cls := "java/util/BitSet", name := "wordIndex", desc := "(I)I" } : Jvm.MethodName)) ∈ lw_all := lw_g (lw_at lw_m1 201 rfl) rfl
theorem q333 : (Jvm.Cond.code ({ cls := "java/util/BitSet", name := "wordIndex", desc := "(I)I" } : Jvm.MethodName) prog_51_method_1_code (1 : Nat) (Option.some Jvm.ClassFile.FieldType.int)) ∈ lw_all := lw_g (lw_at lw_m1 202 rfl) rfl
theorem q334 : (Jvm.Cond.fieldLink "java/util/BitSet" (11 : Nat) "java/util/BitSet" "words" "[J") ∈ lw_all := lw_g (lw_at lw_m1 203 rfl) rfl
theorem q335 : (Jvm.Cond.fieldLink "java/util/BitSet" (7 : Nat) "java/util/BitSet" "wordsInUse" "I") ∈ lw_all := lw_g (lw_at lw_m1 204 rfl) rfl
theorem q336 : (Jvm.Cond.fieldLink "java/util/BitSet" (24 : Nat) "java/util/BitSet" "sizeIsSticky" "Z") ∈ lw_all := lw_g (lw_at lw_m1 205 rfl) rfl
theorem q337 : (Jvm.Cond.lays "java/util/BitSet" "java/util/BitSet" "words" "[J") ∈ lw_all := lw_g (lw_at lw_m1 206 rfl) rfl
theorem q338 : (Jvm.Cond.soleField "java/util/BitSet" "words") ∈ lw_all := lw_g (lw_at lw_m1 207 rfl) rfl
theorem q339 : (Jvm.Cond.lays "java/util/BitSet" "java/util/BitSet" "wordsInUse" "I") ∈ lw_all := lw_g (lw_at lw_m1 208 rfl) rfl
theorem q340 : (Jvm.Cond.soleField "java/util/BitSet" "wordsInUse") ∈ lw_all := lw_g (lw_at lw_m1 209 rfl) rfl
theorem q341 : (Jvm.Cond.lays "java/util/BitSet" "java/util/BitSet" "sizeIsSticky" "Z") ∈ lw_all := lw_g (lw_at lw_m1 210 rfl) rfl
theorem q342 : (Jvm.Cond.soleField "java/util/BitSet" "sizeIsSticky") ∈ lw_all := lw_g (lw_at lw_m1 211 rfl) rfl
theorem q343 : (Jvm.Cond.superclass "java/util/BitSet" "java/lang/Object") ∈ lw_all := lw_g (lw_at lw_m1 212 rfl) rfl
theorem q548 : (Jvm.Cond.instanceMethod ({ cls := "java/util/BitSet", name := "set", desc := "(IZ)V" } : Jvm.MethodName)) ∈ lw_all := lw_g (lw_at lw_m2 177 rfl) rfl
theorem q549 : (Jvm.Cond.selects "java/util/BitSet" ({ cls := "java/util/BitSet", name := "set", desc := "(IZ)V" } : Jvm.MethodName) ({ cls := "java/util/BitSet", name := "set", desc := "(IZ)V" } : Jvm.MethodName)) ∈ lw_all := lw_g (lw_at lw_m2 178 rfl) rfl
theorem q550 : (Jvm.Cond.code ({ cls := "java/util/BitSet", name := "set", desc := "(IZ)V" } : Jvm.MethodName) prog_51_method_20_code (3 : Nat) (Option.none : Option Jvm.ClassFile.FieldType)) ∈ lw_all := lw_g (lw_at lw_m2 179 rfl) rfl
theorem q551 : (Jvm.Cond.methodLink "java/util/BitSet" (167 : Nat) ({ cls := "java/util/BitSet", name := "set", desc := "(I)V" } : Jvm.MethodName)) ∈ lw_all := lw_g (lw_at lw_m2 180 rfl) rfl
theorem q552 : (Jvm.Cond.instanceMethod ({ cls := "java/util/BitSet", name := "set", desc := "(I)V" } : Jvm.MethodName)) ∈ lw_all := lw_g (lw_at lw_m2 181 rfl) rfl
theorem q553 : (Jvm.Cond.selects "java/util/BitSet" ({ cls := "java/util/BitSet", name := "set", desc := "(I)V" } : Jvm.MethodName) ({ cls := "java/util/BitSet", name := "set", desc := "(I)V" } : Jvm.MethodName)) ∈ lw_all := lw_g (lw_at lw_m2 182 rfl) rfl
theorem q554 : (Jvm.Cond.code ({ cls := "java/util/BitSet", name := "set", desc := "(I)V" } : Jvm.MethodName) prog_51_method_19_code (3 : Nat) (Option.none : Option Jvm.ClassFile.FieldType)) ∈ lw_all := lw_g (lw_at lw_m2 183 rfl) rfl
theorem q555 : (Jvm.Cond.methodLink "java/util/BitSet" (155 : Nat) ({ cls := "java/util/BitSet", name := "expandTo", desc := "(I)V" } : Jvm.MethodName)) ∈ lw_all := lw_g (lw_at lw_m2 184 rfl) rfl
theorem q556 : (Jvm.Cond.privateMethod ({ cls := "java/util/BitSet", name := "expandTo", desc := "(I)V" } : Jvm.MethodName)) ∈ lw_tbl := lw_at lw_m2 185 rfl
theorem q557 : (Jvm.Cond.instanceMethod ({ cls := "java/util/BitSet", name := "expandTo", desc := "(I)V" } : Jvm.MethodName)) ∈ lw_all := lw_g (lw_at lw_m2 186 rfl) rfl
theorem q558 : (Jvm.Cond.code ({ cls := "java/util/BitSet", name := "expandTo", desc := "(I)V" } : Jvm.MethodName) prog_51_method_15_code (3 : Nat) (Option.none : Option Jvm.ClassFile.FieldType)) ∈ lw_all := lw_g (lw_at lw_m2 187 rfl) rfl
theorem q559 : (Jvm.Cond.methodLink "java/util/BitSet" (139 : Nat) ({ cls := "java/util/BitSet", name := "ensureCapacity", desc := "(I)V" } : Jvm.MethodName)) ∈ lw_all := lw_g (lw_at lw_m2 188 rfl) rfl
theorem q560 : (Jvm.Cond.privateMethod ({ cls := "java/util/BitSet", name := "ensureCapacity", desc := "(I)V" } : Jvm.MethodName)) ∈ lw_tbl := lw_at lw_m2 189 rfl
theorem q561 : (Jvm.Cond.instanceMethod ({ cls := "java/util/BitSet", name := "ensureCapacity", desc := "(I)V" } : Jvm.MethodName)) ∈ lw_all := lw_g (lw_at lw_m2 190 rfl) rfl
theorem q562 : (Jvm.Cond.code ({ cls := "java/util/BitSet", name := "ensureCapacity", desc := "(I)V" } : Jvm.MethodName) prog_51_method_14_code (3 : Nat) (Option.none : Option Jvm.ClassFile.FieldType)) ∈ lw_all := lw_g (lw_at lw_m2 191 rfl) rfl
theorem q563 : (Jvm.Cond.methodLink "java/util/BitSet" (133 : Nat) ({ cls := "java/lang/Math", name := "max", desc := "(II)I" } : Jvm.MethodName)) ∈ lw_all := lw_g (lw_at lw_m2 192 rfl) rfl
theorem q566 : (Jvm.Cond.methodLink "java/util/BitSet" (59 : Nat) ({ cls := "java/util/Arrays", name := "copyOf", desc := "([JI)[J" } : Jvm.MethodName)) ∈ lw_all := lw_g (lw_at lw_m2 195 rfl) rfl
theorem q582 : (Jvm.Cond.methodLink "java/util/BitSet" (56 : Nat) ({ cls := "java/util/BitSet", name := "checkInvariants", desc := "()V" } : Jvm.MethodName)) ∈ lw_all := lw_g (lw_at lw_m2 211 rfl) rfl
theorem q583 : (Jvm.Cond.privateMethod ({ cls := "java/util/BitSet", name := "checkInvariants", desc := "()V" } : Jvm.MethodName)) ∈ lw_tbl := lw_at lw_m2 212 rfl
theorem q584 : (Jvm.Cond.instanceMethod ({ cls := "java/util/BitSet", name := "checkInvariants", desc := "()V" } : Jvm.MethodName)) ∈ lw_all := lw_g (lw_at lw_m2 213 rfl) rfl
theorem q585 : (Jvm.Cond.code ({ cls := "java/util/BitSet", name := "checkInvariants", desc := "()V" } : Jvm.MethodName) prog_51_method_2_code (1 : Nat) (Option.none : Option Jvm.ClassFile.FieldType)) ∈ lw_all := lw_g (lw_at lw_m2 214 rfl) rfl
theorem q586 : (Jvm.Cond.fieldLink "java/util/BitSet" (3 : Nat) "java/util/BitSet" "$assertionsDisabled" "Z") ∈ lw_all := lw_g (lw_at lw_m2 215 rfl) rfl
theorem q587 : (Jvm.Cond.laysStatic "java/util/BitSet" "$assertionsDisabled" "Z") ∈ lw_tbl := lw_at lw_m2 216 rfl
theorem q588 : (Jvm.Cond.methodLink "java/util/BitSet" (170 : Nat) ({ cls := "java/util/BitSet", name := "clear", desc := "(I)V" } : Jvm.MethodName)) ∈ lw_all := lw_g (lw_at lw_m2 217 rfl) rfl
theorem q589 : (Jvm.Cond.instanceMethod ({ cls := "java/util/BitSet", name := "clear", desc := "(I)V" } : Jvm.MethodName)) ∈ lw_all := lw_g (lw_at lw_m2 218 rfl) rfl
theorem q590 : (Jvm.Cond.selects "java/util/BitSet" ({ cls := "java/util/BitSet", name := "clear", desc := "(I)V" } : Jvm.MethodName) ({ cls := "java/util/BitSet", name := "clear", desc := "(I)V" } : Jvm.MethodName)) ∈ lw_all := lw_g (lw_at lw_m2 219 rfl) rfl
theorem q591 : (Jvm.Cond.code ({ cls := "java/util/BitSet", name := "clear", desc := "(I)V" } : Jvm.MethodName) prog_51_method_23_code (3 : Nat) (Option.none : Option Jvm.ClassFile.FieldType)) ∈ lw_all := lw_g (lw_at lw_m2 220 rfl) rfl
theorem q592 : (Jvm.Cond.constantLong "java/util/BitSet" (165 : Nat) (-1 : Int64)) ∈ lw_all := lw_g (lw_at lw_m2 221 rfl) rfl
theorem q593 : (Jvm.Cond.methodLink "java/util/BitSet" (158 : Nat) ({ cls := "java/util/BitSet", name := "recalculateWordsInUse", desc := "()V" } : Jvm.MethodName)) ∈ lw_all := lw_g (lw_at lw_m2 222 rfl) rfl
theorem q594 : (Jvm.Cond.privateMethod ({ cls := "java/util/BitSet", name := "recalculateWordsInUse", desc := "()V" } : Jvm.MethodName)) ∈ lw_tbl := lw_at lw_m2 223 rfl
theorem q595 : (Jvm.Cond.instanceMethod ({ cls := "java/util/BitSet", name := "recalculateWordsInUse", desc := "()V" } : Jvm.MethodName)) ∈ lw_all := lw_g (lw_at lw_m2 224 rfl) rfl
theorem q596 : (Jvm.Cond.code ({ cls := "java/util/BitSet", name := "recalculateWordsInUse", desc := "()V" } : Jvm.MethodName) prog_51_method_3_code (2 : Nat) (Option.none : Option Jvm.ClassFile.FieldType)) ∈ lw_all := lw_g (lw_at lw_m2 225 rfl) rfl
theorem q839 : (Jvm.Cond.selects "java/util/BitSet" ({ cls := "java/lang/Object", name := "getClass", desc := "()Ljava/lang/Class;" } : Jvm.MethodName) ({ cls := "java/lang/Object", name := "getClass", desc := "()Ljava/lang/Class;" } : Jvm.MethodName)) ∈ lw_all := lw_g (lw_at lw_m3 228 rfl) rfl
theorem q907 : (Jvm.Cond.instanceMethod ({ cls := "java/util/BitSet", name := "get", desc := "(I)Z" } : Jvm.MethodName)) ∈ lw_all := lw_g (lw_at lw_m4 56 rfl) rfl
theorem q908 : (Jvm.Cond.selects "java/util/BitSet" ({ cls := "java/util/BitSet", name := "get", desc := "(I)Z" } : Jvm.MethodName) ({ cls := "java/util/BitSet", name := "get", desc := "(I)Z" } : Jvm.MethodName)) ∈ lw_all := lw_g (lw_at lw_m4 57 rfl) rfl
theorem q909 : (Jvm.Cond.code ({ cls := "java/util/BitSet", name := "get", desc := "(I)Z" } : Jvm.MethodName) prog_51_method_26_code (3 : Nat) (Option.some Jvm.ClassFile.FieldType.boolean)) ∈ lw_all := lw_g (lw_at lw_m4 58 rfl) rfl
theorem q935 : (Jvm.Cond.instanceMethod ({ cls := "java/util/BitSet", name := "cardinality", desc := "()I" } : Jvm.MethodName)) ∈ lw_all := lw_g (lw_at lw_m4 84 rfl) rfl
theorem q936 : (Jvm.Cond.selects "java/util/BitSet" ({ cls := "java/util/BitSet", name := "cardinality", desc := "()I" } : Jvm.MethodName) ({ cls := "java/util/BitSet", name := "cardinality", desc := "()I" } : Jvm.MethodName)) ∈ lw_all := lw_g (lw_at lw_m4 85 rfl) rfl
theorem q937 : (Jvm.Cond.code ({ cls := "java/util/BitSet", name := "cardinality", desc := "()I" } : Jvm.MethodName) prog_51_method_35_code (3 : Nat) (Option.some Jvm.ClassFile.FieldType.int)) ∈ lw_all := lw_g (lw_at lw_m4 86 rfl) rfl
theorem q938 : (Jvm.Cond.methodLink "java/util/BitSet" (196 : Nat) ({ cls := "java/lang/Long", name := "bitCount", desc := "(J)I" } : Jvm.MethodName)) ∈ lw_all := lw_g (lw_at lw_m4 87 rfl) rfl
theorem q948 : (Jvm.Cond.instanceMethod ({ cls := "java/util/BitSet", name := "nextSetBit", desc := "(I)I" } : Jvm.MethodName)) ∈ lw_all := lw_g (lw_at lw_m4 97 rfl) rfl
theorem q949 : (Jvm.Cond.selects "java/util/BitSet" ({ cls := "java/util/BitSet", name := "nextSetBit", desc := "(I)I" } : Jvm.MethodName) ({ cls := "java/util/BitSet", name := "nextSetBit", desc := "(I)I" } : Jvm.MethodName)) ∈ lw_all := lw_g (lw_at lw_m4 98 rfl) rfl
theorem q950 : (Jvm.Cond.code ({ cls := "java/util/BitSet", name := "nextSetBit", desc := "(I)I" } : Jvm.MethodName) prog_51_method_28_code (5 : Nat) (Option.some Jvm.ClassFile.FieldType.int)) ∈ lw_all := lw_g (lw_at lw_m4 99 rfl) rfl
theorem q951 : (Jvm.Cond.methodLink "java/util/BitSet" (182 : Nat) ({ cls := "java/lang/Long", name := "numberOfTrailingZeros", desc := "(J)I" } : Jvm.MethodName)) ∈ lw_all := lw_g (lw_at lw_m4 100 rfl) rfl
theorem q1849 : (Jvm.Cond.instanceMethod ({ cls := "java/util/BitSet", name := "clear", desc := "()V" } : Jvm.MethodName)) ∈ lw_all := lw_g (lw_at lw_m8 38 rfl) rfl
theorem q1850 : (Jvm.Cond.selects "java/util/BitSet" ({ cls := "java/util/BitSet", name := "clear", desc := "()V" } : Jvm.MethodName) ({ cls := "java/util/BitSet", name := "clear", desc := "()V" } : Jvm.MethodName)) ∈ lw_all := lw_g (lw_at lw_m8 39 rfl) rfl
theorem q1851 : (Jvm.Cond.code ({ cls := "java/util/BitSet", name := "clear", desc := "()V" } : Jvm.MethodName) prog_51_method_25_code (1 : Nat) (Option.none : Option Jvm.ClassFile.FieldType)) ∈ lw_all := lw_g (lw_at lw_m8 40 rfl) rfl
theorem q3004 : (Jvm.Cond.castable "java/util/BitSet" "java/lang/Object") ∈ lw_tbl := lw_at lw_m12 233 rfl
theorem in_J6 : ∀ w ∈ wsJ60, w ∈ lw_all := lw_in wsJ60 [337, 339, 341] (by decide +kernel) (by decide +kernel)
/-! java/lang/AbstractStringBuilder -/
set_option maxRecDepth 100000
def RJ7 : String := "java/lang/AbstractStringBuilder"
abbrev cJ7_init : ByteArray := prog_20_method_2_code
def yJ7_init : MethodName := ⟨RJ7, "<init>", "(I)V"⟩
def dkwJ7_init_1 : List UInt8 := [167, 0, 16, 42, 27, 184, 0, 26, 181, 0, 15, 42, 4, 181, 0, 22, 177]
abbrev dktJ7_init_1 : List UInt8 := dkwJ7_init_1 ++ []
def dkwJ7_init_0 : List UInt8 := [42, 183, 0, 3, 178, 0, 18, 153, 0, 18, 42, 27, 188, 8, 181, 0, 15, 42, 3, 181, 0, 22]
abbrev dktJ7_init_0 : List UInt8 := dkwJ7_init_0 ++ dktJ7_init_1
theorem dksJ7_init_0 : cJ7_init.data.toList.drop 0 = dktJ7_init_0 := by decide +kernel
theorem dksJ7_init_1 : cJ7_init.data.toList.drop 22 = dktJ7_init_1 := dk_seg dksJ7_init_0 22 rfl rfl
theorem dJ7_init_0 : decode cJ7_init 0 = .ok (.aload_n 0, 1) := dk_42 (dk_at dksJ7_init_0 0 rfl rfl)
theorem dJ7_init_1 : decode cJ7_init 1 = .ok (.invokespecial 3, 3) := dk_183 0 3 (dk_at dksJ7_init_0 1 rfl rfl)
theorem dJ7_init_4 : decode cJ7_init 4 = .ok (.getstatic 18, 3) := dk_178 0 18 (dk_at dksJ7_init_0 4 rfl rfl)
theorem dJ7_init_7 : decode cJ7_init 7 = .ok (.ifCond .eq 18, 3) := dk_153 0 18 (dk_at dksJ7_init_0 7 rfl rfl)
theorem dJ7_init_10 : decode cJ7_init 10 = .ok (.aload_n 0, 1) := dk_42 (dk_at dksJ7_init_0 10 rfl rfl)
theorem dJ7_init_11 : decode cJ7_init 11 = .ok (.iload_n 1, 1) := dk_27 (dk_at dksJ7_init_0 11 rfl rfl)
theorem dJ7_init_12 : decode cJ7_init 12 = .ok (.newarray .byte, 2) := dk_188_8 (dk_at dksJ7_init_0 12 rfl rfl)
theorem dJ7_init_14 : decode cJ7_init 14 = .ok (.putfield 15, 3) := dk_181 0 15 (dk_at dksJ7_init_0 14 rfl rfl)
theorem dJ7_init_17 : decode cJ7_init 17 = .ok (.aload_n 0, 1) := dk_42 (dk_at dksJ7_init_0 17 rfl rfl)
theorem dJ7_init_18 : decode cJ7_init 18 = .ok (.iconst 0, 1) := dk_3 (dk_at dksJ7_init_0 18 rfl rfl)
theorem dJ7_init_19 : decode cJ7_init 19 = .ok (.putfield 22, 3) := dk_181 0 22 (dk_at dksJ7_init_0 19 rfl rfl)
theorem dJ7_init_22 : decode cJ7_init 22 = .ok (.goto 16, 3) := dk_167 0 16 (dk_at dksJ7_init_1 0 rfl rfl)
theorem dJ7_init_25 : decode cJ7_init 25 = .ok (.aload_n 0, 1) := dk_42 (dk_at dksJ7_init_1 3 rfl rfl)
theorem dJ7_init_26 : decode cJ7_init 26 = .ok (.iload_n 1, 1) := dk_27 (dk_at dksJ7_init_1 4 rfl rfl)
theorem dJ7_init_27 : decode cJ7_init 27 = .ok (.invokestatic 26, 3) := dk_184 0 26 (dk_at dksJ7_init_1 5 rfl rfl)
theorem dJ7_init_30 : decode cJ7_init 30 = .ok (.putfield 15, 3) := dk_181 0 15 (dk_at dksJ7_init_1 8 rfl rfl)
theorem dJ7_init_33 : decode cJ7_init 33 = .ok (.aload_n 0, 1) := dk_42 (dk_at dksJ7_init_1 11 rfl rfl)
theorem dJ7_init_34 : decode cJ7_init 34 = .ok (.iconst 1, 1) := dk_4 (dk_at dksJ7_init_1 12 rfl rfl)
theorem dJ7_init_35 : decode cJ7_init 35 = .ok (.putfield 22, 3) := dk_181 0 22 (dk_at dksJ7_init_1 13 rfl rfl)
theorem dJ7_init_38 : decode cJ7_init 38 = .ok (.return_, 1) := dk_177 (dk_at dksJ7_init_1 16 rfl rfl)
abbrev cJ7_append : ByteArray := prog_20_method_22_code
def yJ7_append : MethodName := ⟨RJ7, "append", "(Ljava/lang/String;)Ljava/lang/AbstractStringBuilder;"⟩
def dkwJ7_append_1 : List UInt8 := [42, 42, 180, 0, 79, 43, 182, 0, 208, 42, 89, 180, 0, 79, 28, 96, 181, 0, 79, 42, 176]
abbrev dktJ7_append_1 : List UInt8 := dkwJ7_append_1 ++ []
def dkwJ7_append_0 : List UInt8 := [43, 199, 0, 8, 42, 182, 0, 204, 176, 43, 182, 0, 32, 61, 42, 42, 180, 0, 79, 28, 96, 182, 0, 100]
abbrev dktJ7_append_0 : List UInt8 := dkwJ7_append_0 ++ dktJ7_append_1
theorem dksJ7_append_0 : cJ7_append.data.toList.drop 0 = dktJ7_append_0 := by decide +kernel
theorem dksJ7_append_1 : cJ7_append.data.toList.drop 24 = dktJ7_append_1 := dk_seg dksJ7_append_0 24 rfl rfl
theorem dJ7_append_0 : decode cJ7_append 0 = .ok (.aload_n 1, 1) := dk_43 (dk_at dksJ7_append_0 0 rfl rfl)
theorem dJ7_append_1 : decode cJ7_append 1 = .ok (.ifnonnull 8, 3) := dk_199 0 8 (dk_at dksJ7_append_0 1 rfl rfl)
theorem dJ7_append_4 : decode cJ7_append 4 = .ok (.aload_n 0, 1) := dk_42 (dk_at dksJ7_append_0 4 rfl rfl)
theorem dJ7_append_5 : decode cJ7_append 5 = .ok (.invokevirtual 204, 3) := dk_182 0 204 (dk_at dksJ7_append_0 5 rfl rfl)
theorem dJ7_append_8 : decode cJ7_append 8 = .ok (.areturn, 1) := dk_176 (dk_at dksJ7_append_0 8 rfl rfl)
theorem dJ7_append_9 : decode cJ7_append 9 = .ok (.aload_n 1, 1) := dk_43 (dk_at dksJ7_append_0 9 rfl rfl)
theorem dJ7_append_10 : decode cJ7_append 10 = .ok (.invokevirtual 32, 3) := dk_182 0 32 (dk_at dksJ7_append_0 10 rfl rfl)
theorem dJ7_append_13 : decode cJ7_append 13 = .ok (.istore_n 2, 1) := dk_61 (dk_at dksJ7_append_0 13 rfl rfl)
theorem dJ7_append_14 : decode cJ7_append 14 = .ok (.aload_n 0, 1) := dk_42 (dk_at dksJ7_append_0 14 rfl rfl)
theorem dJ7_append_15 : decode cJ7_append 15 = .ok (.aload_n 0, 1) := dk_42 (dk_at dksJ7_append_0 15 rfl rfl)
theorem dJ7_append_16 : decode cJ7_append 16 = .ok (.getfield 79, 3) := dk_180 0 79 (dk_at dksJ7_append_0 16 rfl rfl)
theorem dJ7_append_19 : decode cJ7_append 19 = .ok (.iload_n 2, 1) := dk_28 (dk_at dksJ7_append_0 19 rfl rfl)
theorem dJ7_append_20 : decode cJ7_append 20 = .ok (.iadd, 1) := dk_96 (dk_at dksJ7_append_0 20 rfl rfl)
theorem dJ7_append_21 : decode cJ7_append 21 = .ok (.invokevirtual 100, 3) := dk_182 0 100 (dk_at dksJ7_append_0 21 rfl rfl)
theorem dJ7_append_24 : decode cJ7_append 24 = .ok (.aload_n 0, 1) := dk_42 (dk_at dksJ7_append_1 0 rfl rfl)
theorem dJ7_append_25 : decode cJ7_append 25 = .ok (.aload_n 0, 1) := dk_42 (dk_at dksJ7_append_1 1 rfl rfl)
theorem dJ7_append_26 : decode cJ7_append 26 = .ok (.getfield 79, 3) := dk_180 0 79 (dk_at dksJ7_append_1 2 rfl rfl)
theorem dJ7_append_29 : decode cJ7_append 29 = .ok (.aload_n 1, 1) := dk_43 (dk_at dksJ7_append_1 5 rfl rfl)
theorem dJ7_append_30 : decode cJ7_append 30 = .ok (.invokevirtual 208, 3) := dk_182 0 208 (dk_at dksJ7_append_1 6 rfl rfl)
theorem dJ7_append_33 : decode cJ7_append 33 = .ok (.aload_n 0, 1) := dk_42 (dk_at dksJ7_append_1 9 rfl rfl)
theorem dJ7_append_34 : decode cJ7_append 34 = .ok (.dup, 1) := dk_89 (dk_at dksJ7_append_1 10 rfl rfl)
theorem dJ7_append_35 : decode cJ7_append 35 = .ok (.getfield 79, 3) := dk_180 0 79 (dk_at dksJ7_append_1 11 rfl rfl)
theorem dJ7_append_38 : decode cJ7_append 38 = .ok (.iload_n 2, 1) := dk_28 (dk_at dksJ7_append_1 14 rfl rfl)
theorem dJ7_append_39 : decode cJ7_append 39 = .ok (.iadd, 1) := dk_96 (dk_at dksJ7_append_1 15 rfl rfl)
theorem dJ7_append_40 : decode cJ7_append 40 = .ok (.putfield 79, 3) := dk_181 0 79 (dk_at dksJ7_append_1 16 rfl rfl)
theorem dJ7_append_43 : decode cJ7_append 43 = .ok (.aload_n 0, 1) := dk_42 (dk_at dksJ7_append_1 19 rfl rfl)
theorem dJ7_append_44 : decode cJ7_append 44 = .ok (.areturn, 1) := dk_176 (dk_at dksJ7_append_1 20 rfl rfl)
abbrev cJ7_appendNull : ByteArray := prog_20_method_26_code
def yJ7_appendNull : MethodName := ⟨RJ7, "appendNull", "()Ljava/lang/AbstractStringBuilder;"⟩
def dkwJ7_appendNull_3 : List UInt8 := [184, 0, 226, 60, 42, 27, 181, 0, 79, 42, 176]
abbrev dktJ7_appendNull_3 : List UInt8 := dkwJ7_appendNull_3 ++ []
def dkwJ7_appendNull_2 : List UInt8 := [16, 108, 84, 44, 27, 132, 1, 1, 16, 108, 84, 167, 0, 17, 44, 27, 16, 110, 16, 117, 16, 108, 16, 108]
abbrev dktJ7_appendNull_2 : List UInt8 := dkwJ7_appendNull_2 ++ dktJ7_appendNull_3
def dkwJ7_appendNull_1 : List UInt8 := [153, 0, 38, 44, 27, 132, 1, 1, 16, 110, 84, 44, 27, 132, 1, 1, 16, 117, 84, 44, 27, 132, 1, 1]
abbrev dktJ7_appendNull_1 : List UInt8 := dkwJ7_appendNull_1 ++ dktJ7_appendNull_2
def dkwJ7_appendNull_0 : List UInt8 := [42, 42, 180, 0, 79, 7, 96, 182, 0, 100, 42, 180, 0, 79, 60, 42, 180, 0, 15, 77, 42, 182, 0, 83]
abbrev dktJ7_appendNull_0 : List UInt8 := dkwJ7_appendNull_0 ++ dktJ7_appendNull_1
theorem dksJ7_appendNull_0 : cJ7_appendNull.data.toList.drop 0 = dktJ7_appendNull_0 := by decide +kernel
theorem dksJ7_appendNull_1 : cJ7_appendNull.data.toList.drop 24 = dktJ7_appendNull_1 := dk_seg dksJ7_appendNull_0 24 rfl rfl
theorem dksJ7_appendNull_2 : cJ7_appendNull.data.toList.drop 48 = dktJ7_appendNull_2 := dk_seg dksJ7_appendNull_1 24 rfl rfl
theorem dksJ7_appendNull_3 : cJ7_appendNull.data.toList.drop 72 = dktJ7_appendNull_3 := dk_seg dksJ7_appendNull_2 24 rfl rfl
theorem dJ7_appendNull_0 : decode cJ7_appendNull 0 = .ok (.aload_n 0, 1) := dk_42 (dk_at dksJ7_appendNull_0 0 rfl rfl)
theorem dJ7_appendNull_1 : decode cJ7_appendNull 1 = .ok (.aload_n 0, 1) := dk_42 (dk_at dksJ7_appendNull_0 1 rfl rfl)
theorem dJ7_appendNull_2 : decode cJ7_appendNull 2 = .ok (.getfield 79, 3) := dk_180 0 79 (dk_at dksJ7_appendNull_0 2 rfl rfl)
theorem dJ7_appendNull_5 : decode cJ7_appendNull 5 = .ok (.iconst 4, 1) := dk_7 (dk_at dksJ7_appendNull_0 5 rfl rfl)
theorem dJ7_appendNull_6 : decode cJ7_appendNull 6 = .ok (.iadd, 1) := dk_96 (dk_at dksJ7_appendNull_0 6 rfl rfl)
theorem dJ7_appendNull_7 : decode cJ7_appendNull 7 = .ok (.invokevirtual 100, 3) := dk_182 0 100 (dk_at dksJ7_appendNull_0 7 rfl rfl)
theorem dJ7_appendNull_10 : decode cJ7_appendNull 10 = .ok (.aload_n 0, 1) := dk_42 (dk_at dksJ7_appendNull_0 10 rfl rfl)
theorem dJ7_appendNull_11 : decode cJ7_appendNull 11 = .ok (.getfield 79, 3) := dk_180 0 79 (dk_at dksJ7_appendNull_0 11 rfl rfl)
theorem dJ7_appendNull_14 : decode cJ7_appendNull 14 = .ok (.istore_n 1, 1) := dk_60 (dk_at dksJ7_appendNull_0 14 rfl rfl)
theorem dJ7_appendNull_15 : decode cJ7_appendNull 15 = .ok (.aload_n 0, 1) := dk_42 (dk_at dksJ7_appendNull_0 15 rfl rfl)
theorem dJ7_appendNull_16 : decode cJ7_appendNull 16 = .ok (.getfield 15, 3) := dk_180 0 15 (dk_at dksJ7_appendNull_0 16 rfl rfl)
theorem dJ7_appendNull_19 : decode cJ7_appendNull 19 = .ok (.astore_n 2, 1) := dk_77 (dk_at dksJ7_appendNull_0 19 rfl rfl)
theorem dJ7_appendNull_20 : decode cJ7_appendNull 20 = .ok (.aload_n 0, 1) := dk_42 (dk_at dksJ7_appendNull_0 20 rfl rfl)
theorem dJ7_appendNull_21 : decode cJ7_appendNull 21 = .ok (.invokevirtual 83, 3) := dk_182 0 83 (dk_at dksJ7_appendNull_0 21 rfl rfl)
theorem dJ7_appendNull_24 : decode cJ7_appendNull 24 = .ok (.ifCond .eq 38, 3) := dk_153 0 38 (dk_at dksJ7_appendNull_1 0 rfl rfl)
theorem dJ7_appendNull_27 : decode cJ7_appendNull 27 = .ok (.aload_n 2, 1) := dk_44 (dk_at dksJ7_appendNull_1 3 rfl rfl)
theorem dJ7_appendNull_28 : decode cJ7_appendNull 28 = .ok (.iload_n 1, 1) := dk_27 (dk_at dksJ7_appendNull_1 4 rfl rfl)
theorem dJ7_appendNull_29 : decode cJ7_appendNull 29 = .ok (.iinc 1 1, 3) := dk_132 1 1 (dk_at dksJ7_appendNull_1 5 rfl rfl)
theorem dJ7_appendNull_32 : decode cJ7_appendNull 32 = .ok (.bipush 110, 2) := dk_16 110 (dk_at dksJ7_appendNull_1 8 rfl rfl)
theorem dJ7_appendNull_34 : decode cJ7_appendNull 34 = .ok (.bastore, 1) := dk_84 (dk_at dksJ7_appendNull_1 10 rfl rfl)
theorem dJ7_appendNull_35 : decode cJ7_appendNull 35 = .ok (.aload_n 2, 1) := dk_44 (dk_at dksJ7_appendNull_1 11 rfl rfl)
theorem dJ7_appendNull_36 : decode cJ7_appendNull 36 = .ok (.iload_n 1, 1) := dk_27 (dk_at dksJ7_appendNull_1 12 rfl rfl)
theorem dJ7_appendNull_37 : decode cJ7_appendNull 37 = .ok (.iinc 1 1, 3) := dk_132 1 1 (dk_at dksJ7_appendNull_1 13 rfl rfl)
theorem dJ7_appendNull_40 : decode cJ7_appendNull 40 = .ok (.bipush 117, 2) := dk_16 117 (dk_at dksJ7_appendNull_1 16 rfl rfl)
theorem dJ7_appendNull_42 : decode cJ7_appendNull 42 = .ok (.bastore, 1) := dk_84 (dk_at dksJ7_appendNull_1 18 rfl rfl)
theorem dJ7_appendNull_43 : decode cJ7_appendNull 43 = .ok (.aload_n 2, 1) := dk_44 (dk_at dksJ7_appendNull_1 19 rfl rfl)
theorem dJ7_appendNull_44 : decode cJ7_appendNull 44 = .ok (.iload_n 1, 1) := dk_27 (dk_at dksJ7_appendNull_1 20 rfl rfl)
theorem dJ7_appendNull_45 : decode cJ7_appendNull 45 = .ok (.iinc 1 1, 3) := dk_132 1 1 (dk_at dksJ7_appendNull_1 21 rfl rfl)
theorem dJ7_appendNull_48 : decode cJ7_appendNull 48 = .ok (.bipush 108, 2) := dk_16 108 (dk_at dksJ7_appendNull_2 0 rfl rfl)
theorem dJ7_appendNull_50 : decode cJ7_appendNull 50 = .ok (.bastore, 1) := dk_84 (dk_at dksJ7_appendNull_2 2 rfl rfl)
theorem dJ7_appendNull_51 : decode cJ7_appendNull 51 = .ok (.aload_n 2, 1) := dk_44 (dk_at dksJ7_appendNull_2 3 rfl rfl)
theorem dJ7_appendNull_52 : decode cJ7_appendNull 52 = .ok (.iload_n 1, 1) := dk_27 (dk_at dksJ7_appendNull_2 4 rfl rfl)
theorem dJ7_appendNull_53 : decode cJ7_appendNull 53 = .ok (.iinc 1 1, 3) := dk_132 1 1 (dk_at dksJ7_appendNull_2 5 rfl rfl)
theorem dJ7_appendNull_56 : decode cJ7_appendNull 56 = .ok (.bipush 108, 2) := dk_16 108 (dk_at dksJ7_appendNull_2 8 rfl rfl)
theorem dJ7_appendNull_58 : decode cJ7_appendNull 58 = .ok (.bastore, 1) := dk_84 (dk_at dksJ7_appendNull_2 10 rfl rfl)
theorem dJ7_appendNull_59 : decode cJ7_appendNull 59 = .ok (.goto 17, 3) := dk_167 0 17 (dk_at dksJ7_appendNull_2 11 rfl rfl)
theorem dJ7_appendNull_62 : decode cJ7_appendNull 62 = .ok (.aload_n 2, 1) := dk_44 (dk_at dksJ7_appendNull_2 14 rfl rfl)
theorem dJ7_appendNull_63 : decode cJ7_appendNull 63 = .ok (.iload_n 1, 1) := dk_27 (dk_at dksJ7_appendNull_2 15 rfl rfl)
theorem dJ7_appendNull_64 : decode cJ7_appendNull 64 = .ok (.bipush 110, 2) := dk_16 110 (dk_at dksJ7_appendNull_2 16 rfl rfl)
theorem dJ7_appendNull_66 : decode cJ7_appendNull 66 = .ok (.bipush 117, 2) := dk_16 117 (dk_at dksJ7_appendNull_2 18 rfl rfl)
theorem dJ7_appendNull_68 : decode cJ7_appendNull 68 = .ok (.bipush 108, 2) := dk_16 108 (dk_at dksJ7_appendNull_2 20 rfl rfl)
theorem dJ7_appendNull_70 : decode cJ7_appendNull 70 = .ok (.bipush 108, 2) := dk_16 108 (dk_at dksJ7_appendNull_2 22 rfl rfl)
theorem dJ7_appendNull_72 : decode cJ7_appendNull 72 = .ok (.invokestatic 226, 3) := dk_184 0 226 (dk_at dksJ7_appendNull_3 0 rfl rfl)
theorem dJ7_appendNull_75 : decode cJ7_appendNull 75 = .ok (.istore_n 1, 1) := dk_60 (dk_at dksJ7_appendNull_3 3 rfl rfl)
theorem dJ7_appendNull_76 : decode cJ7_appendNull 76 = .ok (.aload_n 0, 1) := dk_42 (dk_at dksJ7_appendNull_3 4 rfl rfl)
theorem dJ7_appendNull_77 : decode cJ7_appendNull 77 = .ok (.iload_n 1, 1) := dk_27 (dk_at dksJ7_appendNull_3 5 rfl rfl)
theorem dJ7_appendNull_78 : decode cJ7_appendNull 78 = .ok (.putfield 79, 3) := dk_181 0 79 (dk_at dksJ7_appendNull_3 6 rfl rfl)
theorem dJ7_appendNull_81 : decode cJ7_appendNull 81 = .ok (.aload_n 0, 1) := dk_42 (dk_at dksJ7_appendNull_3 9 rfl rfl)
theorem dJ7_appendNull_82 : decode cJ7_appendNull 82 = .ok (.areturn, 1) := dk_176 (dk_at dksJ7_appendNull_3 10 rfl rfl)
abbrev cJ7_ensureCapacityInternal : ByteArray := prog_20_method_9_code
def yJ7_ensureCapacityInternal : MethodName := ⟨RJ7, "ensureCapacityInternal", "(I)V"⟩
def dkwJ7_ensureCapacityInternal_1 : List UInt8 := [182, 0, 104, 42, 180, 0, 22, 120, 184, 0, 108, 181, 0, 15, 177]
abbrev dktJ7_ensureCapacityInternal_1 : List UInt8 := dkwJ7_ensureCapacityInternal_1 ++ []
def dkwJ7_ensureCapacityInternal_0 : List UInt8 := [42, 180, 0, 15, 190, 42, 180, 0, 22, 122, 61, 27, 28, 100, 158, 0, 24, 42, 42, 180, 0, 15, 42, 27]
abbrev dktJ7_ensureCapacityInternal_0 : List UInt8 := dkwJ7_ensureCapacityInternal_0 ++ dktJ7_ensureCapacityInternal_1
theorem dksJ7_ensureCapacityInternal_0 : cJ7_ensureCapacityInternal.data.toList.drop 0 = dktJ7_ensureCapacityInternal_0 := by decide +kernel
theorem dksJ7_ensureCapacityInternal_1 : cJ7_ensureCapacityInternal.data.toList.drop 24 = dktJ7_ensureCapacityInternal_1 := dk_seg dksJ7_ensureCapacityInternal_0 24 rfl rfl
theorem dJ7_ensureCapacityInternal_0 : decode cJ7_ensureCapacityInternal 0 = .ok (.aload_n 0, 1) := dk_42 (dk_at dksJ7_ensureCapacityInternal_0 0 rfl rfl)
theorem dJ7_ensureCapacityInternal_1 : decode cJ7_ensureCapacityInternal 1 = .ok (.getfield 15, 3) := dk_180 0 15 (dk_at dksJ7_ensureCapacityInternal_0 1 rfl rfl)
theorem dJ7_ensureCapacityInternal_4 : decode cJ7_ensureCapacityInternal 4 = .ok (.arraylength, 1) := dk_190 (dk_at dksJ7_ensureCapacityInternal_0 4 rfl rfl)
theorem dJ7_ensureCapacityInternal_5 : decode cJ7_ensureCapacityInternal 5 = .ok (.aload_n 0, 1) := dk_42 (dk_at dksJ7_ensureCapacityInternal_0 5 rfl rfl)
theorem dJ7_ensureCapacityInternal_6 : decode cJ7_ensureCapacityInternal 6 = .ok (.getfield 22, 3) := dk_180 0 22 (dk_at dksJ7_ensureCapacityInternal_0 6 rfl rfl)
theorem dJ7_ensureCapacityInternal_9 : decode cJ7_ensureCapacityInternal 9 = .ok (.ishr, 1) := dk_122 (dk_at dksJ7_ensureCapacityInternal_0 9 rfl rfl)
theorem dJ7_ensureCapacityInternal_10 : decode cJ7_ensureCapacityInternal 10 = .ok (.istore_n 2, 1) := dk_61 (dk_at dksJ7_ensureCapacityInternal_0 10 rfl rfl)
theorem dJ7_ensureCapacityInternal_11 : decode cJ7_ensureCapacityInternal 11 = .ok (.iload_n 1, 1) := dk_27 (dk_at dksJ7_ensureCapacityInternal_0 11 rfl rfl)
theorem dJ7_ensureCapacityInternal_12 : decode cJ7_ensureCapacityInternal 12 = .ok (.iload_n 2, 1) := dk_28 (dk_at dksJ7_ensureCapacityInternal_0 12 rfl rfl)
theorem dJ7_ensureCapacityInternal_13 : decode cJ7_ensureCapacityInternal 13 = .ok (.isub, 1) := dk_100 (dk_at dksJ7_ensureCapacityInternal_0 13 rfl rfl)
theorem dJ7_ensureCapacityInternal_14 : decode cJ7_ensureCapacityInternal 14 = .ok (.ifCond .le 24, 3) := dk_158 0 24 (dk_at dksJ7_ensureCapacityInternal_0 14 rfl rfl)
theorem dJ7_ensureCapacityInternal_17 : decode cJ7_ensureCapacityInternal 17 = .ok (.aload_n 0, 1) := dk_42 (dk_at dksJ7_ensureCapacityInternal_0 17 rfl rfl)
theorem dJ7_ensureCapacityInternal_18 : decode cJ7_ensureCapacityInternal 18 = .ok (.aload_n 0, 1) := dk_42 (dk_at dksJ7_ensureCapacityInternal_0 18 rfl rfl)
theorem dJ7_ensureCapacityInternal_19 : decode cJ7_ensureCapacityInternal 19 = .ok (.getfield 15, 3) := dk_180 0 15 (dk_at dksJ7_ensureCapacityInternal_0 19 rfl rfl)
theorem dJ7_ensureCapacityInternal_22 : decode cJ7_ensureCapacityInternal 22 = .ok (.aload_n 0, 1) := dk_42 (dk_at dksJ7_ensureCapacityInternal_0 22 rfl rfl)
theorem dJ7_ensureCapacityInternal_23 : decode cJ7_ensureCapacityInternal 23 = .ok (.iload_n 1, 1) := dk_27 (dk_at dksJ7_ensureCapacityInternal_0 23 rfl rfl)
theorem dJ7_ensureCapacityInternal_24 : decode cJ7_ensureCapacityInternal 24 = .ok (.invokevirtual 104, 3) := dk_182 0 104 (dk_at dksJ7_ensureCapacityInternal_1 0 rfl rfl)
theorem dJ7_ensureCapacityInternal_27 : decode cJ7_ensureCapacityInternal 27 = .ok (.aload_n 0, 1) := dk_42 (dk_at dksJ7_ensureCapacityInternal_1 3 rfl rfl)
theorem dJ7_ensureCapacityInternal_28 : decode cJ7_ensureCapacityInternal 28 = .ok (.getfield 22, 3) := dk_180 0 22 (dk_at dksJ7_ensureCapacityInternal_1 4 rfl rfl)
theorem dJ7_ensureCapacityInternal_31 : decode cJ7_ensureCapacityInternal 31 = .ok (.ishl, 1) := dk_120 (dk_at dksJ7_ensureCapacityInternal_1 7 rfl rfl)
theorem dJ7_ensureCapacityInternal_32 : decode cJ7_ensureCapacityInternal 32 = .ok (.invokestatic 108, 3) := dk_184 0 108 (dk_at dksJ7_ensureCapacityInternal_1 8 rfl rfl)
theorem dJ7_ensureCapacityInternal_35 : decode cJ7_ensureCapacityInternal 35 = .ok (.putfield 15, 3) := dk_181 0 15 (dk_at dksJ7_ensureCapacityInternal_1 11 rfl rfl)
theorem dJ7_ensureCapacityInternal_38 : decode cJ7_ensureCapacityInternal 38 = .ok (.return_, 1) := dk_177 (dk_at dksJ7_ensureCapacityInternal_1 14 rfl rfl)
abbrev cJ7_newCapacity : ByteArray := prog_20_method_10_code
def yJ7_newCapacity : MethodName := ⟨RJ7, "newCapacity", "(I)I"⟩
def dkwJ7_newCapacity_2 : List UInt8 := [183, 0, 124, 191, 21, 5, 42, 180, 0, 22, 122, 172]
abbrev dktJ7_newCapacity_2 : List UInt8 := dkwJ7_newCapacity_2 ++ []
def dkwJ7_newCapacity_1 : List UInt8 := [180, 0, 22, 120, 96, 184, 0, 114, 54, 5, 21, 5, 18, 39, 160, 0, 13, 187, 0, 120, 89, 18, 122]
abbrev dktJ7_newCapacity_1 : List UInt8 := dkwJ7_newCapacity_1 ++ dktJ7_newCapacity_2
def dkwJ7_newCapacity_0 : List UInt8 := [42, 180, 0, 15, 190, 61, 27, 42, 180, 0, 22, 120, 62, 29, 28, 100, 54, 4, 28, 21, 4, 28, 5, 42]
abbrev dktJ7_newCapacity_0 : List UInt8 := dkwJ7_newCapacity_0 ++ dktJ7_newCapacity_1
theorem dksJ7_newCapacity_0 : cJ7_newCapacity.data.toList.drop 0 = dktJ7_newCapacity_0 := by decide +kernel
theorem dksJ7_newCapacity_1 : cJ7_newCapacity.data.toList.drop 24 = dktJ7_newCapacity_1 := dk_seg dksJ7_newCapacity_0 24 rfl rfl
theorem dksJ7_newCapacity_2 : cJ7_newCapacity.data.toList.drop 47 = dktJ7_newCapacity_2 := dk_seg dksJ7_newCapacity_1 23 rfl rfl
theorem dJ7_newCapacity_0 : decode cJ7_newCapacity 0 = .ok (.aload_n 0, 1) := dk_42 (dk_at dksJ7_newCapacity_0 0 rfl rfl)
theorem dJ7_newCapacity_1 : decode cJ7_newCapacity 1 = .ok (.getfield 15, 3) := dk_180 0 15 (dk_at dksJ7_newCapacity_0 1 rfl rfl)
theorem dJ7_newCapacity_4 : decode cJ7_newCapacity 4 = .ok (.arraylength, 1) := dk_190 (dk_at dksJ7_newCapacity_0 4 rfl rfl)
theorem dJ7_newCapacity_5 : decode cJ7_newCapacity 5 = .ok (.istore_n 2, 1) := dk_61 (dk_at dksJ7_newCapacity_0 5 rfl rfl)
theorem dJ7_newCapacity_6 : decode cJ7_newCapacity 6 = .ok (.iload_n 1, 1) := dk_27 (dk_at dksJ7_newCapacity_0 6 rfl rfl)
theorem dJ7_newCapacity_7 : decode cJ7_newCapacity 7 = .ok (.aload_n 0, 1) := dk_42 (dk_at dksJ7_newCapacity_0 7 rfl rfl)
theorem dJ7_newCapacity_8 : decode cJ7_newCapacity 8 = .ok (.getfield 22, 3) := dk_180 0 22 (dk_at dksJ7_newCapacity_0 8 rfl rfl)
theorem dJ7_newCapacity_11 : decode cJ7_newCapacity 11 = .ok (.ishl, 1) := dk_120 (dk_at dksJ7_newCapacity_0 11 rfl rfl)
theorem dJ7_newCapacity_12 : decode cJ7_newCapacity 12 = .ok (.istore_n 3, 1) := dk_62 (dk_at dksJ7_newCapacity_0 12 rfl rfl)
theorem dJ7_newCapacity_13 : decode cJ7_newCapacity 13 = .ok (.iload_n 3, 1) := dk_29 (dk_at dksJ7_newCapacity_0 13 rfl rfl)
theorem dJ7_newCapacity_14 : decode cJ7_newCapacity 14 = .ok (.iload_n 2, 1) := dk_28 (dk_at dksJ7_newCapacity_0 14 rfl rfl)
theorem dJ7_newCapacity_15 : decode cJ7_newCapacity 15 = .ok (.isub, 1) := dk_100 (dk_at dksJ7_newCapacity_0 15 rfl rfl)
theorem dJ7_newCapacity_16 : decode cJ7_newCapacity 16 = .ok (.istore 4, 2) := dk_54 4 (dk_at dksJ7_newCapacity_0 16 rfl rfl)
theorem dJ7_newCapacity_18 : decode cJ7_newCapacity 18 = .ok (.iload_n 2, 1) := dk_28 (dk_at dksJ7_newCapacity_0 18 rfl rfl)
theorem dJ7_newCapacity_19 : decode cJ7_newCapacity 19 = .ok (.iload 4, 2) := dk_21 4 (dk_at dksJ7_newCapacity_0 19 rfl rfl)
theorem dJ7_newCapacity_21 : decode cJ7_newCapacity 21 = .ok (.iload_n 2, 1) := dk_28 (dk_at dksJ7_newCapacity_0 21 rfl rfl)
theorem dJ7_newCapacity_22 : decode cJ7_newCapacity 22 = .ok (.iconst 2, 1) := dk_5 (dk_at dksJ7_newCapacity_0 22 rfl rfl)
theorem dJ7_newCapacity_23 : decode cJ7_newCapacity 23 = .ok (.aload_n 0, 1) := dk_42 (dk_at dksJ7_newCapacity_0 23 rfl rfl)
theorem dJ7_newCapacity_24 : decode cJ7_newCapacity 24 = .ok (.getfield 22, 3) := dk_180 0 22 (dk_at dksJ7_newCapacity_1 0 rfl rfl)
theorem dJ7_newCapacity_27 : decode cJ7_newCapacity 27 = .ok (.ishl, 1) := dk_120 (dk_at dksJ7_newCapacity_1 3 rfl rfl)
theorem dJ7_newCapacity_28 : decode cJ7_newCapacity 28 = .ok (.iadd, 1) := dk_96 (dk_at dksJ7_newCapacity_1 4 rfl rfl)
theorem dJ7_newCapacity_29 : decode cJ7_newCapacity 29 = .ok (.invokestatic 114, 3) := dk_184 0 114 (dk_at dksJ7_newCapacity_1 5 rfl rfl)
theorem dJ7_newCapacity_32 : decode cJ7_newCapacity 32 = .ok (.istore 5, 2) := dk_54 5 (dk_at dksJ7_newCapacity_1 8 rfl rfl)
theorem dJ7_newCapacity_34 : decode cJ7_newCapacity 34 = .ok (.iload 5, 2) := dk_21 5 (dk_at dksJ7_newCapacity_1 10 rfl rfl)
theorem dJ7_newCapacity_36 : decode cJ7_newCapacity 36 = .ok (.ldc 39, 2) := dk_18 39 (dk_at dksJ7_newCapacity_1 12 rfl rfl)
theorem dJ7_newCapacity_38 : decode cJ7_newCapacity 38 = .ok (.if_icmp .ne 13, 3) := dk_160 0 13 (dk_at dksJ7_newCapacity_1 14 rfl rfl)
theorem dJ7_newCapacity_41 : decode cJ7_newCapacity 41 = .ok (.new 120, 3) := dk_187 0 120 (dk_at dksJ7_newCapacity_1 17 rfl rfl)
theorem dJ7_newCapacity_44 : decode cJ7_newCapacity 44 = .ok (.dup, 1) := dk_89 (dk_at dksJ7_newCapacity_1 20 rfl rfl)
theorem dJ7_newCapacity_45 : decode cJ7_newCapacity 45 = .ok (.ldc 122, 2) := dk_18 122 (dk_at dksJ7_newCapacity_1 21 rfl rfl)
theorem dJ7_newCapacity_47 : decode cJ7_newCapacity 47 = .ok (.invokespecial 124, 3) := dk_183 0 124 (dk_at dksJ7_newCapacity_2 0 rfl rfl)
theorem dJ7_newCapacity_50 : decode cJ7_newCapacity 50 = .ok (.athrow, 1) := dk_191 (dk_at dksJ7_newCapacity_2 3 rfl rfl)
theorem dJ7_newCapacity_51 : decode cJ7_newCapacity 51 = .ok (.iload 5, 2) := dk_21 5 (dk_at dksJ7_newCapacity_2 4 rfl rfl)
theorem dJ7_newCapacity_53 : decode cJ7_newCapacity 53 = .ok (.aload_n 0, 1) := dk_42 (dk_at dksJ7_newCapacity_2 6 rfl rfl)
theorem dJ7_newCapacity_54 : decode cJ7_newCapacity 54 = .ok (.getfield 22, 3) := dk_180 0 22 (dk_at dksJ7_newCapacity_2 7 rfl rfl)
theorem dJ7_newCapacity_57 : decode cJ7_newCapacity 57 = .ok (.ishr, 1) := dk_122 (dk_at dksJ7_newCapacity_2 10 rfl rfl)
theorem dJ7_newCapacity_58 : decode cJ7_newCapacity 58 = .ok (.ireturn, 1) := dk_172 (dk_at dksJ7_newCapacity_2 11 rfl rfl)
abbrev cJ7_isLatin1 : ByteArray := prog_20_method_68_code
def yJ7_isLatin1 : MethodName := ⟨RJ7, "isLatin1", "()Z"⟩
def dkwJ7_isLatin1_0 : List UInt8 := [178, 0, 18, 153, 0, 14, 42, 180, 0, 22, 154, 0, 7, 4, 167, 0, 4, 3, 172]
abbrev dktJ7_isLatin1_0 : List UInt8 := dkwJ7_isLatin1_0 ++ []
theorem dksJ7_isLatin1_0 : cJ7_isLatin1.data.toList.drop 0 = dktJ7_isLatin1_0 := by decide +kernel
theorem dJ7_isLatin1_0 : decode cJ7_isLatin1 0 = .ok (.getstatic 18, 3) := dk_178 0 18 (dk_at dksJ7_isLatin1_0 0 rfl rfl)
theorem dJ7_isLatin1_3 : decode cJ7_isLatin1 3 = .ok (.ifCond .eq 14, 3) := dk_153 0 14 (dk_at dksJ7_isLatin1_0 3 rfl rfl)
theorem dJ7_isLatin1_6 : decode cJ7_isLatin1 6 = .ok (.aload_n 0, 1) := dk_42 (dk_at dksJ7_isLatin1_0 6 rfl rfl)
theorem dJ7_isLatin1_7 : decode cJ7_isLatin1 7 = .ok (.getfield 22, 3) := dk_180 0 22 (dk_at dksJ7_isLatin1_0 7 rfl rfl)
theorem dJ7_isLatin1_10 : decode cJ7_isLatin1 10 = .ok (.ifCond .ne 7, 3) := dk_154 0 7 (dk_at dksJ7_isLatin1_0 10 rfl rfl)
theorem dJ7_isLatin1_13 : decode cJ7_isLatin1 13 = .ok (.iconst 1, 1) := dk_4 (dk_at dksJ7_isLatin1_0 13 rfl rfl)
theorem dJ7_isLatin1_14 : decode cJ7_isLatin1 14 = .ok (.goto 4, 3) := dk_167 0 4 (dk_at dksJ7_isLatin1_0 14 rfl rfl)
theorem dJ7_isLatin1_17 : decode cJ7_isLatin1 17 = .ok (.iconst 0, 1) := dk_3 (dk_at dksJ7_isLatin1_0 17 rfl rfl)
theorem dJ7_isLatin1_18 : decode cJ7_isLatin1 18 = .ok (.ireturn, 1) := dk_172 (dk_at dksJ7_isLatin1_0 18 rfl rfl)
abbrev cJ7_putStringAt : ByteArray := prog_20_method_73_code
def yJ7_putStringAt : MethodName := ⟨RJ7, "putStringAt", "(ILjava/lang/String;)V"⟩
def dkwJ7_putStringAt_0 : List UInt8 := [42, 44, 182, 1, 141, 44, 42, 180, 0, 15, 27, 42, 180, 0, 22, 182, 1, 143, 177]
abbrev dktJ7_putStringAt_0 : List UInt8 := dkwJ7_putStringAt_0 ++ []
theorem dksJ7_putStringAt_0 : cJ7_putStringAt.data.toList.drop 0 = dktJ7_putStringAt_0 := by decide +kernel
theorem dJ7_putStringAt_0 : decode cJ7_putStringAt 0 = .ok (.aload_n 0, 1) := dk_42 (dk_at dksJ7_putStringAt_0 0 rfl rfl)
theorem dJ7_putStringAt_1 : decode cJ7_putStringAt 1 = .ok (.aload_n 2, 1) := dk_44 (dk_at dksJ7_putStringAt_0 1 rfl rfl)
theorem dJ7_putStringAt_2 : decode cJ7_putStringAt 2 = .ok (.invokevirtual 397, 3) := dk_182 1 141 (dk_at dksJ7_putStringAt_0 2 rfl rfl)
theorem dJ7_putStringAt_5 : decode cJ7_putStringAt 5 = .ok (.aload_n 2, 1) := dk_44 (dk_at dksJ7_putStringAt_0 5 rfl rfl)
theorem dJ7_putStringAt_6 : decode cJ7_putStringAt 6 = .ok (.aload_n 0, 1) := dk_42 (dk_at dksJ7_putStringAt_0 6 rfl rfl)
theorem dJ7_putStringAt_7 : decode cJ7_putStringAt 7 = .ok (.getfield 15, 3) := dk_180 0 15 (dk_at dksJ7_putStringAt_0 7 rfl rfl)
theorem dJ7_putStringAt_10 : decode cJ7_putStringAt 10 = .ok (.iload_n 1, 1) := dk_27 (dk_at dksJ7_putStringAt_0 10 rfl rfl)
theorem dJ7_putStringAt_11 : decode cJ7_putStringAt 11 = .ok (.aload_n 0, 1) := dk_42 (dk_at dksJ7_putStringAt_0 11 rfl rfl)
theorem dJ7_putStringAt_12 : decode cJ7_putStringAt 12 = .ok (.getfield 22, 3) := dk_180 0 22 (dk_at dksJ7_putStringAt_0 12 rfl rfl)
theorem dJ7_putStringAt_15 : decode cJ7_putStringAt 15 = .ok (.invokevirtual 399, 3) := dk_182 1 143 (dk_at dksJ7_putStringAt_0 15 rfl rfl)
theorem dJ7_putStringAt_18 : decode cJ7_putStringAt 18 = .ok (.return_, 1) := dk_177 (dk_at dksJ7_putStringAt_0 18 rfl rfl)
abbrev cJ7_inflateIfNeededFor : ByteArray := prog_20_method_71_code
def yJ7_inflateIfNeededFor : MethodName := ⟨RJ7, "inflateIfNeededFor", "(Ljava/lang/String;)V"⟩
def dkwJ7_inflateIfNeededFor_0 : List UInt8 := [178, 0, 18, 153, 0, 18, 42, 180, 0, 22, 43, 182, 0, 40, 159, 0, 7, 42, 182, 0, 195, 177]
abbrev dktJ7_inflateIfNeededFor_0 : List UInt8 := dkwJ7_inflateIfNeededFor_0 ++ []
theorem dksJ7_inflateIfNeededFor_0 : cJ7_inflateIfNeededFor.data.toList.drop 0 = dktJ7_inflateIfNeededFor_0 := by decide +kernel
theorem dJ7_inflateIfNeededFor_0 : decode cJ7_inflateIfNeededFor 0 = .ok (.getstatic 18, 3) := dk_178 0 18 (dk_at dksJ7_inflateIfNeededFor_0 0 rfl rfl)
theorem dJ7_inflateIfNeededFor_3 : decode cJ7_inflateIfNeededFor 3 = .ok (.ifCond .eq 18, 3) := dk_153 0 18 (dk_at dksJ7_inflateIfNeededFor_0 3 rfl rfl)
theorem dJ7_inflateIfNeededFor_6 : decode cJ7_inflateIfNeededFor 6 = .ok (.aload_n 0, 1) := dk_42 (dk_at dksJ7_inflateIfNeededFor_0 6 rfl rfl)
theorem dJ7_inflateIfNeededFor_7 : decode cJ7_inflateIfNeededFor 7 = .ok (.getfield 22, 3) := dk_180 0 22 (dk_at dksJ7_inflateIfNeededFor_0 7 rfl rfl)
theorem dJ7_inflateIfNeededFor_10 : decode cJ7_inflateIfNeededFor 10 = .ok (.aload_n 1, 1) := dk_43 (dk_at dksJ7_inflateIfNeededFor_0 10 rfl rfl)
theorem dJ7_inflateIfNeededFor_11 : decode cJ7_inflateIfNeededFor 11 = .ok (.invokevirtual 40, 3) := dk_182 0 40 (dk_at dksJ7_inflateIfNeededFor_0 11 rfl rfl)
theorem dJ7_inflateIfNeededFor_14 : decode cJ7_inflateIfNeededFor 14 = .ok (.if_icmp .eq 7, 3) := dk_159 0 7 (dk_at dksJ7_inflateIfNeededFor_0 14 rfl rfl)
theorem dJ7_inflateIfNeededFor_17 : decode cJ7_inflateIfNeededFor 17 = .ok (.aload_n 0, 1) := dk_42 (dk_at dksJ7_inflateIfNeededFor_0 17 rfl rfl)
theorem dJ7_inflateIfNeededFor_18 : decode cJ7_inflateIfNeededFor 18 = .ok (.invokevirtual 195, 3) := dk_182 0 195 (dk_at dksJ7_inflateIfNeededFor_0 18 rfl rfl)
theorem dJ7_inflateIfNeededFor_21 : decode cJ7_inflateIfNeededFor 21 = .ok (.return_, 1) := dk_177 (dk_at dksJ7_inflateIfNeededFor_0 21 rfl rfl)
abbrev cJ7_inflate : ByteArray := prog_20_method_11_code
def yJ7_inflate : MethodName := ⟨RJ7, "inflate", "()V"⟩
def dkwJ7_inflate_1 : List UInt8 := [42, 180, 0, 79, 184, 0, 125, 42, 43, 181, 0, 15, 42, 4, 181, 0, 22, 177]
abbrev dktJ7_inflate_1 : List UInt8 := dkwJ7_inflate_1 ++ []
def dkwJ7_inflate_0 : List UInt8 := [42, 182, 0, 83, 154, 0, 4, 177, 42, 180, 0, 15, 190, 184, 0, 26, 76, 42, 180, 0, 15, 3, 43, 3]
abbrev dktJ7_inflate_0 : List UInt8 := dkwJ7_inflate_0 ++ dktJ7_inflate_1
theorem dksJ7_inflate_0 : cJ7_inflate.data.toList.drop 0 = dktJ7_inflate_0 := by decide +kernel
theorem dksJ7_inflate_1 : cJ7_inflate.data.toList.drop 24 = dktJ7_inflate_1 := dk_seg dksJ7_inflate_0 24 rfl rfl
theorem dJ7_inflate_0 : decode cJ7_inflate 0 = .ok (.aload_n 0, 1) := dk_42 (dk_at dksJ7_inflate_0 0 rfl rfl)
theorem dJ7_inflate_1 : decode cJ7_inflate 1 = .ok (.invokevirtual 83, 3) := dk_182 0 83 (dk_at dksJ7_inflate_0 1 rfl rfl)
theorem dJ7_inflate_4 : decode cJ7_inflate 4 = .ok (.ifCond .ne 4, 3) := dk_154 0 4 (dk_at dksJ7_inflate_0 4 rfl rfl)
theorem dJ7_inflate_7 : decode cJ7_inflate 7 = .ok (.return_, 1) := dk_177 (dk_at dksJ7_inflate_0 7 rfl rfl)
theorem dJ7_inflate_8 : decode cJ7_inflate 8 = .ok (.aload_n 0, 1) := dk_42 (dk_at dksJ7_inflate_0 8 rfl rfl)
theorem dJ7_inflate_9 : decode cJ7_inflate 9 = .ok (.getfield 15, 3) := dk_180 0 15 (dk_at dksJ7_inflate_0 9 rfl rfl)
theorem dJ7_inflate_12 : decode cJ7_inflate 12 = .ok (.arraylength, 1) := dk_190 (dk_at dksJ7_inflate_0 12 rfl rfl)
theorem dJ7_inflate_13 : decode cJ7_inflate 13 = .ok (.invokestatic 26, 3) := dk_184 0 26 (dk_at dksJ7_inflate_0 13 rfl rfl)
theorem dJ7_inflate_16 : decode cJ7_inflate 16 = .ok (.astore_n 1, 1) := dk_76 (dk_at dksJ7_inflate_0 16 rfl rfl)
theorem dJ7_inflate_17 : decode cJ7_inflate 17 = .ok (.aload_n 0, 1) := dk_42 (dk_at dksJ7_inflate_0 17 rfl rfl)
theorem dJ7_inflate_18 : decode cJ7_inflate 18 = .ok (.getfield 15, 3) := dk_180 0 15 (dk_at dksJ7_inflate_0 18 rfl rfl)
theorem dJ7_inflate_21 : decode cJ7_inflate 21 = .ok (.iconst 0, 1) := dk_3 (dk_at dksJ7_inflate_0 21 rfl rfl)
theorem dJ7_inflate_22 : decode cJ7_inflate 22 = .ok (.aload_n 1, 1) := dk_43 (dk_at dksJ7_inflate_0 22 rfl rfl)
theorem dJ7_inflate_23 : decode cJ7_inflate 23 = .ok (.iconst 0, 1) := dk_3 (dk_at dksJ7_inflate_0 23 rfl rfl)
theorem dJ7_inflate_24 : decode cJ7_inflate 24 = .ok (.aload_n 0, 1) := dk_42 (dk_at dksJ7_inflate_1 0 rfl rfl)
theorem dJ7_inflate_25 : decode cJ7_inflate 25 = .ok (.getfield 79, 3) := dk_180 0 79 (dk_at dksJ7_inflate_1 1 rfl rfl)
theorem dJ7_inflate_28 : decode cJ7_inflate 28 = .ok (.invokestatic 125, 3) := dk_184 0 125 (dk_at dksJ7_inflate_1 4 rfl rfl)
theorem dJ7_inflate_31 : decode cJ7_inflate 31 = .ok (.aload_n 0, 1) := dk_42 (dk_at dksJ7_inflate_1 7 rfl rfl)
theorem dJ7_inflate_32 : decode cJ7_inflate 32 = .ok (.aload_n 1, 1) := dk_43 (dk_at dksJ7_inflate_1 8 rfl rfl)
theorem dJ7_inflate_33 : decode cJ7_inflate 33 = .ok (.putfield 15, 3) := dk_181 0 15 (dk_at dksJ7_inflate_1 9 rfl rfl)
theorem dJ7_inflate_36 : decode cJ7_inflate 36 = .ok (.aload_n 0, 1) := dk_42 (dk_at dksJ7_inflate_1 12 rfl rfl)
theorem dJ7_inflate_37 : decode cJ7_inflate 37 = .ok (.iconst 1, 1) := dk_4 (dk_at dksJ7_inflate_1 13 rfl rfl)
theorem dJ7_inflate_38 : decode cJ7_inflate 38 = .ok (.putfield 22, 3) := dk_181 0 22 (dk_at dksJ7_inflate_1 14 rfl rfl)
theorem dJ7_inflate_41 : decode cJ7_inflate 41 = .ok (.return_, 1) := dk_177 (dk_at dksJ7_inflate_1 17 rfl rfl)
abbrev cJ7_getValue : ByteArray := prog_20_method_64_code
def yJ7_getValue : MethodName := ⟨RJ7, "getValue", "()[B"⟩
theorem dJ7_getValue_0 : decode cJ7_getValue 0 = .ok (.aload_n 0, 1) := by decide +kernel
theorem dJ7_getValue_1 : decode cJ7_getValue 1 = .ok (.getfield 15, 3) := by decide +kernel
theorem dJ7_getValue_4 : decode cJ7_getValue 4 = .ok (.areturn, 1) := by decide +kernel
abbrev cJ7_length : ByteArray := prog_20_method_6_code
def yJ7_length : MethodName := ⟨RJ7, "length", "()I"⟩
theorem dJ7_length_0 : decode cJ7_length 0 = .ok (.aload_n 0, 1) := by decide +kernel
theorem dJ7_length_1 : decode cJ7_length 1 = .ok (.getfield 79, 3) := by decide +kernel
theorem dJ7_length_4 : decode cJ7_length 4 = .ok (.ireturn, 1) := by decide +kernel
abbrev cJ7_append_2 : ByteArray := prog_20_method_31_code
def yJ7_append_2 : MethodName := ⟨RJ7, "append", "(C)Ljava/lang/AbstractStringBuilder;"⟩
def dkwJ7_append_2_3 : List UInt8 := [181, 0, 79, 27, 184, 0, 197, 42, 176]
abbrev dktJ7_append_2_3 : List UInt8 := dkwJ7_append_2_3 ++ []
def dkwJ7_append_2_2 : List UInt8 := [182, 0, 83, 153, 0, 7, 42, 182, 0, 195, 42, 180, 0, 15, 42, 89, 180, 0, 79, 90, 4, 96]
abbrev dktJ7_append_2_2 : List UInt8 := dkwJ7_append_2_2 ++ dktJ7_append_2_3
def dkwJ7_append_2_1 : List UInt8 := [42, 180, 0, 15, 42, 89, 180, 0, 79, 90, 4, 96, 181, 0, 79, 27, 145, 84, 167, 0, 33, 42]
abbrev dktJ7_append_2_1 : List UInt8 := dkwJ7_append_2_1 ++ dktJ7_append_2_2
def dkwJ7_append_2_0 : List UInt8 := [42, 42, 180, 0, 79, 4, 96, 182, 0, 100, 42, 182, 0, 83, 153, 0, 31, 27, 184, 0, 191, 153, 0, 24]
abbrev dktJ7_append_2_0 : List UInt8 := dkwJ7_append_2_0 ++ dktJ7_append_2_1
theorem dksJ7_append_2_0 : cJ7_append_2.data.toList.drop 0 = dktJ7_append_2_0 := by decide +kernel
theorem dksJ7_append_2_1 : cJ7_append_2.data.toList.drop 24 = dktJ7_append_2_1 := dk_seg dksJ7_append_2_0 24 rfl rfl
theorem dksJ7_append_2_2 : cJ7_append_2.data.toList.drop 46 = dktJ7_append_2_2 := dk_seg dksJ7_append_2_1 22 rfl rfl
theorem dksJ7_append_2_3 : cJ7_append_2.data.toList.drop 68 = dktJ7_append_2_3 := dk_seg dksJ7_append_2_2 22 rfl rfl
theorem dJ7_append_2_0 : decode cJ7_append_2 0 = .ok (.aload_n 0, 1) := dk_42 (dk_at dksJ7_append_2_0 0 rfl rfl)
theorem dJ7_append_2_1 : decode cJ7_append_2 1 = .ok (.aload_n 0, 1) := dk_42 (dk_at dksJ7_append_2_0 1 rfl rfl)
theorem dJ7_append_2_2 : decode cJ7_append_2 2 = .ok (.getfield 79, 3) := dk_180 0 79 (dk_at dksJ7_append_2_0 2 rfl rfl)
theorem dJ7_append_2_5 : decode cJ7_append_2 5 = .ok (.iconst 1, 1) := dk_4 (dk_at dksJ7_append_2_0 5 rfl rfl)
theorem dJ7_append_2_6 : decode cJ7_append_2 6 = .ok (.iadd, 1) := dk_96 (dk_at dksJ7_append_2_0 6 rfl rfl)
theorem dJ7_append_2_7 : decode cJ7_append_2 7 = .ok (.invokevirtual 100, 3) := dk_182 0 100 (dk_at dksJ7_append_2_0 7 rfl rfl)
theorem dJ7_append_2_10 : decode cJ7_append_2 10 = .ok (.aload_n 0, 1) := dk_42 (dk_at dksJ7_append_2_0 10 rfl rfl)
theorem dJ7_append_2_11 : decode cJ7_append_2 11 = .ok (.invokevirtual 83, 3) := dk_182 0 83 (dk_at dksJ7_append_2_0 11 rfl rfl)
theorem dJ7_append_2_14 : decode cJ7_append_2 14 = .ok (.ifCond .eq 31, 3) := dk_153 0 31 (dk_at dksJ7_append_2_0 14 rfl rfl)
theorem dJ7_append_2_17 : decode cJ7_append_2 17 = .ok (.iload_n 1, 1) := dk_27 (dk_at dksJ7_append_2_0 17 rfl rfl)
theorem dJ7_append_2_18 : decode cJ7_append_2 18 = .ok (.invokestatic 191, 3) := dk_184 0 191 (dk_at dksJ7_append_2_0 18 rfl rfl)
theorem dJ7_append_2_21 : decode cJ7_append_2 21 = .ok (.ifCond .eq 24, 3) := dk_153 0 24 (dk_at dksJ7_append_2_0 21 rfl rfl)
theorem dJ7_append_2_24 : decode cJ7_append_2 24 = .ok (.aload_n 0, 1) := dk_42 (dk_at dksJ7_append_2_1 0 rfl rfl)
theorem dJ7_append_2_25 : decode cJ7_append_2 25 = .ok (.getfield 15, 3) := dk_180 0 15 (dk_at dksJ7_append_2_1 1 rfl rfl)
theorem dJ7_append_2_28 : decode cJ7_append_2 28 = .ok (.aload_n 0, 1) := dk_42 (dk_at dksJ7_append_2_1 4 rfl rfl)
theorem dJ7_append_2_29 : decode cJ7_append_2 29 = .ok (.dup, 1) := dk_89 (dk_at dksJ7_append_2_1 5 rfl rfl)
theorem dJ7_append_2_30 : decode cJ7_append_2 30 = .ok (.getfield 79, 3) := dk_180 0 79 (dk_at dksJ7_append_2_1 6 rfl rfl)
theorem dJ7_append_2_33 : decode cJ7_append_2 33 = .ok (.dup_x1, 1) := dk_90 (dk_at dksJ7_append_2_1 9 rfl rfl)
theorem dJ7_append_2_34 : decode cJ7_append_2 34 = .ok (.iconst 1, 1) := dk_4 (dk_at dksJ7_append_2_1 10 rfl rfl)
theorem dJ7_append_2_35 : decode cJ7_append_2 35 = .ok (.iadd, 1) := dk_96 (dk_at dksJ7_append_2_1 11 rfl rfl)
theorem dJ7_append_2_36 : decode cJ7_append_2 36 = .ok (.putfield 79, 3) := dk_181 0 79 (dk_at dksJ7_append_2_1 12 rfl rfl)
theorem dJ7_append_2_39 : decode cJ7_append_2 39 = .ok (.iload_n 1, 1) := dk_27 (dk_at dksJ7_append_2_1 15 rfl rfl)
theorem dJ7_append_2_40 : decode cJ7_append_2 40 = .ok (.i2b, 1) := dk_145 (dk_at dksJ7_append_2_1 16 rfl rfl)
theorem dJ7_append_2_41 : decode cJ7_append_2 41 = .ok (.bastore, 1) := dk_84 (dk_at dksJ7_append_2_1 17 rfl rfl)
theorem dJ7_append_2_42 : decode cJ7_append_2 42 = .ok (.goto 33, 3) := dk_167 0 33 (dk_at dksJ7_append_2_1 18 rfl rfl)
theorem dJ7_append_2_45 : decode cJ7_append_2 45 = .ok (.aload_n 0, 1) := dk_42 (dk_at dksJ7_append_2_1 21 rfl rfl)
theorem dJ7_append_2_46 : decode cJ7_append_2 46 = .ok (.invokevirtual 83, 3) := dk_182 0 83 (dk_at dksJ7_append_2_2 0 rfl rfl)
theorem dJ7_append_2_49 : decode cJ7_append_2 49 = .ok (.ifCond .eq 7, 3) := dk_153 0 7 (dk_at dksJ7_append_2_2 3 rfl rfl)
theorem dJ7_append_2_52 : decode cJ7_append_2 52 = .ok (.aload_n 0, 1) := dk_42 (dk_at dksJ7_append_2_2 6 rfl rfl)
theorem dJ7_append_2_53 : decode cJ7_append_2 53 = .ok (.invokevirtual 195, 3) := dk_182 0 195 (dk_at dksJ7_append_2_2 7 rfl rfl)
theorem dJ7_append_2_56 : decode cJ7_append_2 56 = .ok (.aload_n 0, 1) := dk_42 (dk_at dksJ7_append_2_2 10 rfl rfl)
theorem dJ7_append_2_57 : decode cJ7_append_2 57 = .ok (.getfield 15, 3) := dk_180 0 15 (dk_at dksJ7_append_2_2 11 rfl rfl)
theorem dJ7_append_2_60 : decode cJ7_append_2 60 = .ok (.aload_n 0, 1) := dk_42 (dk_at dksJ7_append_2_2 14 rfl rfl)
theorem dJ7_append_2_61 : decode cJ7_append_2 61 = .ok (.dup, 1) := dk_89 (dk_at dksJ7_append_2_2 15 rfl rfl)
theorem dJ7_append_2_62 : decode cJ7_append_2 62 = .ok (.getfield 79, 3) := dk_180 0 79 (dk_at dksJ7_append_2_2 16 rfl rfl)
theorem dJ7_append_2_65 : decode cJ7_append_2 65 = .ok (.dup_x1, 1) := dk_90 (dk_at dksJ7_append_2_2 19 rfl rfl)
theorem dJ7_append_2_66 : decode cJ7_append_2 66 = .ok (.iconst 1, 1) := dk_4 (dk_at dksJ7_append_2_2 20 rfl rfl)
theorem dJ7_append_2_67 : decode cJ7_append_2 67 = .ok (.iadd, 1) := dk_96 (dk_at dksJ7_append_2_2 21 rfl rfl)
theorem dJ7_append_2_68 : decode cJ7_append_2 68 = .ok (.putfield 79, 3) := dk_181 0 79 (dk_at dksJ7_append_2_3 0 rfl rfl)
theorem dJ7_append_2_71 : decode cJ7_append_2 71 = .ok (.iload_n 1, 1) := dk_27 (dk_at dksJ7_append_2_3 3 rfl rfl)
theorem dJ7_append_2_72 : decode cJ7_append_2 72 = .ok (.invokestatic 197, 3) := dk_184 0 197 (dk_at dksJ7_append_2_3 4 rfl rfl)
theorem dJ7_append_2_75 : decode cJ7_append_2 75 = .ok (.aload_n 0, 1) := dk_42 (dk_at dksJ7_append_2_3 7 rfl rfl)
theorem dJ7_append_2_76 : decode cJ7_append_2 76 = .ok (.areturn, 1) := dk_176 (dk_at dksJ7_append_2_3 8 rfl rfl)
abbrev cJ7_setLength : ByteArray := prog_20_method_13_code
def yJ7_setLength : MethodName := ⟨RJ7, "setLength", "(I)V"⟩
def dkwJ7_setLength_3 : List UInt8 := [164, 0, 8, 42, 4, 181, 0, 73, 42, 27, 181, 0, 79, 177]
abbrev dktJ7_setLength_3 : List UInt8 := dkwJ7_setLength_3 ++ []
def dkwJ7_setLength_2 : List UInt8 := [167, 0, 31, 42, 180, 0, 15, 42, 180, 0, 79, 27, 184, 0, 137, 167, 0, 16, 42, 180, 0, 79, 27]
abbrev dktJ7_setLength_2 : List UInt8 := dkwJ7_setLength_2 ++ dktJ7_setLength_3
def dkwJ7_setLength_1 : List UInt8 := [162, 0, 40, 42, 182, 0, 83, 153, 0, 18, 42, 180, 0, 15, 42, 180, 0, 79, 27, 184, 0, 133]
abbrev dktJ7_setLength_1 : List UInt8 := dkwJ7_setLength_1 ++ dktJ7_setLength_2
def dkwJ7_setLength_0 : List UInt8 := [27, 156, 0, 12, 187, 0, 129, 89, 27, 183, 0, 131, 191, 42, 27, 182, 0, 100, 42, 180, 0, 79, 27]
abbrev dktJ7_setLength_0 : List UInt8 := dkwJ7_setLength_0 ++ dktJ7_setLength_1
theorem dksJ7_setLength_0 : cJ7_setLength.data.toList.drop 0 = dktJ7_setLength_0 := by decide +kernel
theorem dksJ7_setLength_1 : cJ7_setLength.data.toList.drop 23 = dktJ7_setLength_1 := dk_seg dksJ7_setLength_0 23 rfl rfl
theorem dksJ7_setLength_2 : cJ7_setLength.data.toList.drop 45 = dktJ7_setLength_2 := dk_seg dksJ7_setLength_1 22 rfl rfl
theorem dksJ7_setLength_3 : cJ7_setLength.data.toList.drop 68 = dktJ7_setLength_3 := dk_seg dksJ7_setLength_2 23 rfl rfl
theorem dJ7_setLength_0 : decode cJ7_setLength 0 = .ok (.iload_n 1, 1) := dk_27 (dk_at dksJ7_setLength_0 0 rfl rfl)
theorem dJ7_setLength_1 : decode cJ7_setLength 1 = .ok (.ifCond .ge 12, 3) := dk_156 0 12 (dk_at dksJ7_setLength_0 1 rfl rfl)
theorem dJ7_setLength_4 : decode cJ7_setLength 4 = .ok (.new 129, 3) := dk_187 0 129 (dk_at dksJ7_setLength_0 4 rfl rfl)
theorem dJ7_setLength_7 : decode cJ7_setLength 7 = .ok (.dup, 1) := dk_89 (dk_at dksJ7_setLength_0 7 rfl rfl)
theorem dJ7_setLength_8 : decode cJ7_setLength 8 = .ok (.iload_n 1, 1) := dk_27 (dk_at dksJ7_setLength_0 8 rfl rfl)
theorem dJ7_setLength_9 : decode cJ7_setLength 9 = .ok (.invokespecial 131, 3) := dk_183 0 131 (dk_at dksJ7_setLength_0 9 rfl rfl)
theorem dJ7_setLength_12 : decode cJ7_setLength 12 = .ok (.athrow, 1) := dk_191 (dk_at dksJ7_setLength_0 12 rfl rfl)
theorem dJ7_setLength_13 : decode cJ7_setLength 13 = .ok (.aload_n 0, 1) := dk_42 (dk_at dksJ7_setLength_0 13 rfl rfl)
theorem dJ7_setLength_14 : decode cJ7_setLength 14 = .ok (.iload_n 1, 1) := dk_27 (dk_at dksJ7_setLength_0 14 rfl rfl)
theorem dJ7_setLength_15 : decode cJ7_setLength 15 = .ok (.invokevirtual 100, 3) := dk_182 0 100 (dk_at dksJ7_setLength_0 15 rfl rfl)
theorem dJ7_setLength_18 : decode cJ7_setLength 18 = .ok (.aload_n 0, 1) := dk_42 (dk_at dksJ7_setLength_0 18 rfl rfl)
theorem dJ7_setLength_19 : decode cJ7_setLength 19 = .ok (.getfield 79, 3) := dk_180 0 79 (dk_at dksJ7_setLength_0 19 rfl rfl)
theorem dJ7_setLength_22 : decode cJ7_setLength 22 = .ok (.iload_n 1, 1) := dk_27 (dk_at dksJ7_setLength_0 22 rfl rfl)
theorem dJ7_setLength_23 : decode cJ7_setLength 23 = .ok (.if_icmp .ge 40, 3) := dk_162 0 40 (dk_at dksJ7_setLength_1 0 rfl rfl)
theorem dJ7_setLength_26 : decode cJ7_setLength 26 = .ok (.aload_n 0, 1) := dk_42 (dk_at dksJ7_setLength_1 3 rfl rfl)
theorem dJ7_setLength_27 : decode cJ7_setLength 27 = .ok (.invokevirtual 83, 3) := dk_182 0 83 (dk_at dksJ7_setLength_1 4 rfl rfl)
theorem dJ7_setLength_30 : decode cJ7_setLength 30 = .ok (.ifCond .eq 18, 3) := dk_153 0 18 (dk_at dksJ7_setLength_1 7 rfl rfl)
theorem dJ7_setLength_33 : decode cJ7_setLength 33 = .ok (.aload_n 0, 1) := dk_42 (dk_at dksJ7_setLength_1 10 rfl rfl)
theorem dJ7_setLength_34 : decode cJ7_setLength 34 = .ok (.getfield 15, 3) := dk_180 0 15 (dk_at dksJ7_setLength_1 11 rfl rfl)
theorem dJ7_setLength_37 : decode cJ7_setLength 37 = .ok (.aload_n 0, 1) := dk_42 (dk_at dksJ7_setLength_1 14 rfl rfl)
theorem dJ7_setLength_38 : decode cJ7_setLength 38 = .ok (.getfield 79, 3) := dk_180 0 79 (dk_at dksJ7_setLength_1 15 rfl rfl)
theorem dJ7_setLength_41 : decode cJ7_setLength 41 = .ok (.iload_n 1, 1) := dk_27 (dk_at dksJ7_setLength_1 18 rfl rfl)
theorem dJ7_setLength_42 : decode cJ7_setLength 42 = .ok (.invokestatic 133, 3) := dk_184 0 133 (dk_at dksJ7_setLength_1 19 rfl rfl)
theorem dJ7_setLength_45 : decode cJ7_setLength 45 = .ok (.goto 31, 3) := dk_167 0 31 (dk_at dksJ7_setLength_2 0 rfl rfl)
theorem dJ7_setLength_48 : decode cJ7_setLength 48 = .ok (.aload_n 0, 1) := dk_42 (dk_at dksJ7_setLength_2 3 rfl rfl)
theorem dJ7_setLength_49 : decode cJ7_setLength 49 = .ok (.getfield 15, 3) := dk_180 0 15 (dk_at dksJ7_setLength_2 4 rfl rfl)
theorem dJ7_setLength_52 : decode cJ7_setLength 52 = .ok (.aload_n 0, 1) := dk_42 (dk_at dksJ7_setLength_2 7 rfl rfl)
theorem dJ7_setLength_53 : decode cJ7_setLength 53 = .ok (.getfield 79, 3) := dk_180 0 79 (dk_at dksJ7_setLength_2 8 rfl rfl)
theorem dJ7_setLength_56 : decode cJ7_setLength 56 = .ok (.iload_n 1, 1) := dk_27 (dk_at dksJ7_setLength_2 11 rfl rfl)
theorem dJ7_setLength_57 : decode cJ7_setLength 57 = .ok (.invokestatic 137, 3) := dk_184 0 137 (dk_at dksJ7_setLength_2 12 rfl rfl)
theorem dJ7_setLength_60 : decode cJ7_setLength 60 = .ok (.goto 16, 3) := dk_167 0 16 (dk_at dksJ7_setLength_2 15 rfl rfl)
theorem dJ7_setLength_63 : decode cJ7_setLength 63 = .ok (.aload_n 0, 1) := dk_42 (dk_at dksJ7_setLength_2 18 rfl rfl)
theorem dJ7_setLength_64 : decode cJ7_setLength 64 = .ok (.getfield 79, 3) := dk_180 0 79 (dk_at dksJ7_setLength_2 19 rfl rfl)
theorem dJ7_setLength_67 : decode cJ7_setLength 67 = .ok (.iload_n 1, 1) := dk_27 (dk_at dksJ7_setLength_2 22 rfl rfl)
theorem dJ7_setLength_68 : decode cJ7_setLength 68 = .ok (.if_icmp .le 8, 3) := dk_164 0 8 (dk_at dksJ7_setLength_3 0 rfl rfl)
theorem dJ7_setLength_71 : decode cJ7_setLength 71 = .ok (.aload_n 0, 1) := dk_42 (dk_at dksJ7_setLength_3 3 rfl rfl)
theorem dJ7_setLength_72 : decode cJ7_setLength 72 = .ok (.iconst 1, 1) := dk_4 (dk_at dksJ7_setLength_3 4 rfl rfl)
theorem dJ7_setLength_73 : decode cJ7_setLength 73 = .ok (.putfield 73, 3) := dk_181 0 73 (dk_at dksJ7_setLength_3 5 rfl rfl)
theorem dJ7_setLength_76 : decode cJ7_setLength 76 = .ok (.aload_n 0, 1) := dk_42 (dk_at dksJ7_setLength_3 8 rfl rfl)
theorem dJ7_setLength_77 : decode cJ7_setLength 77 = .ok (.iload_n 1, 1) := dk_27 (dk_at dksJ7_setLength_3 9 rfl rfl)
theorem dJ7_setLength_78 : decode cJ7_setLength 78 = .ok (.putfield 79, 3) := dk_181 0 79 (dk_at dksJ7_setLength_3 10 rfl rfl)
theorem dJ7_setLength_81 : decode cJ7_setLength 81 = .ok (.return_, 1) := dk_177 (dk_at dksJ7_setLength_3 13 rfl rfl)
abbrev cJ7_charAt : ByteArray := prog_20_method_14_code
def yJ7_charAt : MethodName := ⟨RJ7, "charAt", "(I)C"⟩
def dkwJ7_charAt_1 : List UInt8 := [21, 4, 184, 0, 144, 28, 154, 0, 12, 45, 27, 51, 17, 0, 255, 126, 146, 172, 45, 27, 184, 0, 148, 172]
abbrev dktJ7_charAt_1 : List UInt8 := dkwJ7_charAt_1 ++ []
def dkwJ7_charAt_0 : List UInt8 := [42, 180, 0, 22, 61, 42, 180, 0, 15, 78, 42, 180, 0, 79, 45, 190, 28, 122, 184, 0, 138, 54, 4, 27]
abbrev dktJ7_charAt_0 : List UInt8 := dkwJ7_charAt_0 ++ dktJ7_charAt_1
theorem dksJ7_charAt_0 : cJ7_charAt.data.toList.drop 0 = dktJ7_charAt_0 := by decide +kernel
theorem dksJ7_charAt_1 : cJ7_charAt.data.toList.drop 24 = dktJ7_charAt_1 := dk_seg dksJ7_charAt_0 24 rfl rfl
theorem dJ7_charAt_0 : decode cJ7_charAt 0 = .ok (.aload_n 0, 1) := dk_42 (dk_at dksJ7_charAt_0 0 rfl rfl)
theorem dJ7_charAt_1 : decode cJ7_charAt 1 = .ok (.getfield 22, 3) := dk_180 0 22 (dk_at dksJ7_charAt_0 1 rfl rfl)
theorem dJ7_charAt_4 : decode cJ7_charAt 4 = .ok (.istore_n 2, 1) := dk_61 (dk_at dksJ7_charAt_0 4 rfl rfl)
theorem dJ7_charAt_5 : decode cJ7_charAt 5 = .ok (.aload_n 0, 1) := dk_42 (dk_at dksJ7_charAt_0 5 rfl rfl)
theorem dJ7_charAt_6 : decode cJ7_charAt 6 = .ok (.getfield 15, 3) := dk_180 0 15 (dk_at dksJ7_charAt_0 6 rfl rfl)
theorem dJ7_charAt_9 : decode cJ7_charAt 9 = .ok (.astore_n 3, 1) := dk_78 (dk_at dksJ7_charAt_0 9 rfl rfl)
theorem dJ7_charAt_10 : decode cJ7_charAt 10 = .ok (.aload_n 0, 1) := dk_42 (dk_at dksJ7_charAt_0 10 rfl rfl)
theorem dJ7_charAt_11 : decode cJ7_charAt 11 = .ok (.getfield 79, 3) := dk_180 0 79 (dk_at dksJ7_charAt_0 11 rfl rfl)
theorem dJ7_charAt_14 : decode cJ7_charAt 14 = .ok (.aload_n 3, 1) := dk_45 (dk_at dksJ7_charAt_0 14 rfl rfl)
theorem dJ7_charAt_15 : decode cJ7_charAt 15 = .ok (.arraylength, 1) := dk_190 (dk_at dksJ7_charAt_0 15 rfl rfl)
theorem dJ7_charAt_16 : decode cJ7_charAt 16 = .ok (.iload_n 2, 1) := dk_28 (dk_at dksJ7_charAt_0 16 rfl rfl)
theorem dJ7_charAt_17 : decode cJ7_charAt 17 = .ok (.ishr, 1) := dk_122 (dk_at dksJ7_charAt_0 17 rfl rfl)
theorem dJ7_charAt_18 : decode cJ7_charAt 18 = .ok (.invokestatic 138, 3) := dk_184 0 138 (dk_at dksJ7_charAt_0 18 rfl rfl)
theorem dJ7_charAt_21 : decode cJ7_charAt 21 = .ok (.istore 4, 2) := dk_54 4 (dk_at dksJ7_charAt_0 21 rfl rfl)
theorem dJ7_charAt_23 : decode cJ7_charAt 23 = .ok (.iload_n 1, 1) := dk_27 (dk_at dksJ7_charAt_0 23 rfl rfl)
theorem dJ7_charAt_24 : decode cJ7_charAt 24 = .ok (.iload 4, 2) := dk_21 4 (dk_at dksJ7_charAt_1 0 rfl rfl)
theorem dJ7_charAt_26 : decode cJ7_charAt 26 = .ok (.invokestatic 144, 3) := dk_184 0 144 (dk_at dksJ7_charAt_1 2 rfl rfl)
theorem dJ7_charAt_29 : decode cJ7_charAt 29 = .ok (.iload_n 2, 1) := dk_28 (dk_at dksJ7_charAt_1 5 rfl rfl)
theorem dJ7_charAt_30 : decode cJ7_charAt 30 = .ok (.ifCond .ne 12, 3) := dk_154 0 12 (dk_at dksJ7_charAt_1 6 rfl rfl)
theorem dJ7_charAt_33 : decode cJ7_charAt 33 = .ok (.aload_n 3, 1) := dk_45 (dk_at dksJ7_charAt_1 9 rfl rfl)
theorem dJ7_charAt_34 : decode cJ7_charAt 34 = .ok (.iload_n 1, 1) := dk_27 (dk_at dksJ7_charAt_1 10 rfl rfl)
theorem dJ7_charAt_35 : decode cJ7_charAt 35 = .ok (.baload, 1) := dk_51 (dk_at dksJ7_charAt_1 11 rfl rfl)
theorem dJ7_charAt_36 : decode cJ7_charAt 36 = .ok (.sipush 255, 3) := dk_17 0 255 (dk_at dksJ7_charAt_1 12 rfl rfl)
theorem dJ7_charAt_39 : decode cJ7_charAt 39 = .ok (.iand, 1) := dk_126 (dk_at dksJ7_charAt_1 15 rfl rfl)
theorem dJ7_charAt_40 : decode cJ7_charAt 40 = .ok (.i2c, 1) := dk_146 (dk_at dksJ7_charAt_1 16 rfl rfl)
theorem dJ7_charAt_41 : decode cJ7_charAt 41 = .ok (.ireturn, 1) := dk_172 (dk_at dksJ7_charAt_1 17 rfl rfl)
theorem dJ7_charAt_42 : decode cJ7_charAt 42 = .ok (.aload_n 3, 1) := dk_45 (dk_at dksJ7_charAt_1 18 rfl rfl)
theorem dJ7_charAt_43 : decode cJ7_charAt 43 = .ok (.iload_n 1, 1) := dk_27 (dk_at dksJ7_charAt_1 19 rfl rfl)
theorem dJ7_charAt_44 : decode cJ7_charAt 44 = .ok (.invokestatic 148, 3) := dk_184 0 148 (dk_at dksJ7_charAt_1 20 rfl rfl)
theorem dJ7_charAt_47 : decode cJ7_charAt 47 = .ok (.ireturn, 1) := dk_172 (dk_at dksJ7_charAt_1 23 rfl rfl)
theorem q142 : (Jvm.Cond.initialized "java/lang/AbstractStringBuilder") ∈ lw_all := lw_g (lw_at lw_m1 11 rfl) rfl
theorem q351 : (Jvm.Cond.instanceMethod ({ cls := "java/lang/AbstractStringBuilder", name := "<init>", desc := "(I)V" } : Jvm.MethodName)) ∈ lw_all := lw_g (lw_at lw_m1 220 rfl) rfl
theorem q352 : (Jvm.Cond.code ({ cls := "java/lang/AbstractStringBuilder", name := "<init>", desc := "(I)V" } : Jvm.MethodName) prog_20_method_2_code (2 : Nat) (Option.none : Option Jvm.ClassFile.FieldType)) ∈ lw_all := lw_g (lw_at lw_m1 221 rfl) rfl
theorem q353 : (Jvm.Cond.methodLink "java/lang/AbstractStringBuilder" (3 : Nat) ({ cls := "java/lang/Object", name := "<init>", desc := "()V" } : Jvm.MethodName)) ∈ lw_all := lw_g (lw_at lw_m1 222 rfl) rfl
theorem q354 : (Jvm.Cond.fieldLink "java/lang/AbstractStringBuilder" (18 : Nat) "java/lang/String" "COMPACT_STRINGS" "Z") ∈ lw_all := lw_g (lw_at lw_m1 223 rfl) rfl
theorem q356 : (Jvm.Cond.methodLink "java/lang/AbstractStringBuilder" (26 : Nat) ({ cls := "java/lang/StringUTF16", name := "newBytesFor", desc := "(I)[B" } : Jvm.MethodName)) ∈ lw_all := lw_g (lw_at lw_m1 225 rfl) rfl
theorem q363 : (Jvm.Cond.fieldLink "java/lang/AbstractStringBuilder" (15 : Nat) "java/lang/AbstractStringBuilder" "value" "[B") ∈ lw_all := lw_g (lw_at lw_m1 232 rfl) rfl
theorem q364 : (Jvm.Cond.fieldLink "java/lang/AbstractStringBuilder" (22 : Nat) "java/lang/AbstractStringBuilder" "coder" "B") ∈ lw_all := lw_g (lw_at lw_m1 233 rfl) rfl
theorem q365 : (Jvm.Cond.fieldLink "java/lang/AbstractStringBuilder" (73 : Nat) "java/lang/AbstractStringBuilder" "maybeLatin1" "Z") ∈ lw_all := lw_g (lw_at lw_m1 234 rfl) rfl
theorem q367 : (Jvm.Cond.fieldLink "java/lang/AbstractStringBuilder" (79 : Nat) "java/lang/AbstractStringBuilder" "count" "I") ∈ lw_all := lw_g (lw_at lw_m1 236 rfl) rfl
theorem q369 : (Jvm.Cond.soleField "java/lang/AbstractStringBuilder" "value") ∈ lw_all := lw_g (lw_at lw_m1 238 rfl) rfl
theorem q371 : (Jvm.Cond.soleField "java/lang/AbstractStringBuilder" "coder") ∈ lw_all := lw_g (lw_at lw_m2 0 rfl) rfl
theorem q373 : (Jvm.Cond.soleField "java/lang/AbstractStringBuilder" "maybeLatin1") ∈ lw_all := lw_g (lw_at lw_m2 2 rfl) rfl
theorem q375 : (Jvm.Cond.soleField "java/lang/AbstractStringBuilder" "count") ∈ lw_all := lw_g (lw_at lw_m2 4 rfl) rfl
theorem q1428 : (Jvm.Cond.instanceMethod ({ cls := "java/lang/AbstractStringBuilder", name := "append", desc := "(Ljava/lang/String;)Ljava/lang/AbstractStringBuilder;" } : Jvm.MethodName)) ∈ lw_all := lw_g (lw_at lw_m6 97 rfl) rfl
theorem q1429 : (Jvm.Cond.code ({ cls := "java/lang/AbstractStringBuilder", name := "append", desc := "(Ljava/lang/String;)Ljava/lang/AbstractStringBuilder;" } : Jvm.MethodName) prog_20_method_22_code (3 : Nat) (Option.some (Jvm.ClassFile.FieldType.object "java/lang/AbstractStringBuilder"))) ∈ lw_all := lw_g (lw_at lw_m6 98 rfl) rfl
theorem q1430 : (Jvm.Cond.methodLink "java/lang/AbstractStringBuilder" (204 : Nat) ({ cls := "java/lang/AbstractStringBuilder", name := "appendNull", desc := "()Ljava/lang/AbstractStringBuilder;" } : Jvm.MethodName)) ∈ lw_all := lw_g (lw_at lw_m6 99 rfl) rfl
theorem q1431 : (Jvm.Cond.privateMethod ({ cls := "java/lang/AbstractStringBuilder", name := "appendNull", desc := "()Ljava/lang/AbstractStringBuilder;" } : Jvm.MethodName)) ∈ lw_tbl := lw_at lw_m6 100 rfl
theorem q1432 : (Jvm.Cond.instanceMethod ({ cls := "java/lang/AbstractStringBuilder", name := "appendNull", desc := "()Ljava/lang/AbstractStringBuilder;" } : Jvm.MethodName)) ∈ lw_all := lw_g (lw_at lw_m6 101 rfl) rfl
theorem q1433 : (Jvm.Cond.code ({ cls := "java/lang/AbstractStringBuilder", name := "appendNull", desc := "()Ljava/lang/AbstractStringBuilder;" } : Jvm.MethodName) prog_20_method_26_code (3 : Nat) (Option.some (Jvm.ClassFile.FieldType.object "java/lang/AbstractStringBuilder"))) ∈ lw_all := lw_g (lw_at lw_m6 102 rfl) rfl
theorem q1434 : (Jvm.Cond.methodLink "java/lang/AbstractStringBuilder" (100 : Nat) ({ cls := "java/lang/AbstractStringBuilder", name := "ensureCapacityInternal", desc := "(I)V" } : Jvm.MethodName)) ∈ lw_all := lw_g (lw_at lw_m6 103 rfl) rfl
theorem q1435 : (Jvm.Cond.privateMethod ({ cls := "java/lang/AbstractStringBuilder", name := "ensureCapacityInternal", desc := "(I)V" } : Jvm.MethodName)) ∈ lw_tbl := lw_at lw_m6 104 rfl
theorem q1436 : (Jvm.Cond.instanceMethod ({ cls := "java/lang/AbstractStringBuilder", name := "ensureCapacityInternal", desc := "(I)V" } : Jvm.MethodName)) ∈ lw_all := lw_g (lw_at lw_m6 105 rfl) rfl
theorem q1437 : (Jvm.Cond.code ({ cls := "java/lang/AbstractStringBuilder", name := "ensureCapacityInternal", desc := "(I)V" } : Jvm.MethodName) prog_20_method_9_code (3 : Nat) (Option.none : Option Jvm.ClassFile.FieldType)) ∈ lw_all := lw_g (lw_at lw_m6 106 rfl) rfl
theorem q1438 : (Jvm.Cond.methodLink "java/lang/AbstractStringBuilder" (104 : Nat) ({ cls := "java/lang/AbstractStringBuilder", name := "newCapacity", desc := "(I)I" } : Jvm.MethodName)) ∈ lw_all := lw_g (lw_at lw_m6 107 rfl) rfl
theorem q1439 : (Jvm.Cond.privateMethod ({ cls := "java/lang/AbstractStringBuilder", name := "newCapacity", desc := "(I)I" } : Jvm.MethodName)) ∈ lw_tbl := lw_at lw_m6 108 rfl
theorem q1440 : (Jvm.Cond.instanceMethod ({ cls := "java/lang/AbstractStringBuilder", name := "newCapacity", desc := "(I)I" } : Jvm.MethodName)) ∈ lw_all := lw_g (lw_at lw_m6 109 rfl) rfl
theorem q1441 : (Jvm.Cond.code ({ cls := "java/lang/AbstractStringBuilder", name := "newCapacity", desc := "(I)I" } : Jvm.MethodName) prog_20_method_10_code (6 : Nat) (Option.some Jvm.ClassFile.FieldType.int)) ∈ lw_all := lw_g (lw_at lw_m6 110 rfl) rfl
theorem q1442 : (Jvm.Cond.methodLink "java/lang/AbstractStringBuilder" (114 : Nat) ({ cls := "jdk/internal/util/ArraysSupport", name := "newLength", desc := "(III)I" } : Jvm.MethodName)) ∈ lw_all := lw_g (lw_at lw_m6 111 rfl) rfl
theorem q1443 : (Jvm.Cond.constant "java/lang/AbstractStringBuilder" (39 : Nat) (2147483647 : Int32)) ∈ lw_all := lw_g (lw_at lw_m6 112 rfl) rfl
theorem q1444 : (Jvm.Cond.methodLink "java/lang/AbstractStringBuilder" (108 : Nat) ({ cls := "java/util/Arrays", name := "copyOf", desc := "([BI)[B" } : Jvm.MethodName)) ∈ lw_all := lw_g (lw_at lw_m6 113 rfl) rfl
theorem q1452 : (Jvm.Cond.methodLink "java/lang/AbstractStringBuilder" (83 : Nat) ({ cls := "java/lang/AbstractStringBuilder", name := "isLatin1", desc := "()Z" } : Jvm.MethodName)) ∈ lw_all := lw_g (lw_at lw_m6 121 rfl) rfl
theorem q1453 : (Jvm.Cond.instanceMethod ({ cls := "java/lang/AbstractStringBuilder", name := "isLatin1", desc := "()Z" } : Jvm.MethodName)) ∈ lw_all := lw_g (lw_at lw_m6 122 rfl) rfl
theorem q1454 : (Jvm.Cond.sameMethod "java/lang/AbstractStringBuilder" "java/lang/AbstractStringBuilder" "isLatin1" "()Z") ∈ lw_all := lw_g (lw_at lw_m6 123 rfl) rfl
theorem q1456 : (Jvm.Cond.code ({ cls := "java/lang/AbstractStringBuilder", name := "isLatin1", desc := "()Z" } : Jvm.MethodName) prog_20_method_68_code (1 : Nat) (Option.some Jvm.ClassFile.FieldType.boolean)) ∈ lw_all := lw_g (lw_at lw_m6 125 rfl) rfl
theorem q1457 : (Jvm.Cond.methodLink "java/lang/AbstractStringBuilder" (226 : Nat) ({ cls := "java/lang/StringUTF16", name := "putCharsAt", desc := "([BICCCC)I" } : Jvm.MethodName)) ∈ lw_all := lw_g (lw_at lw_m6 126 rfl) rfl
theorem q1483 : (Jvm.Cond.methodLink "java/lang/AbstractStringBuilder" (32 : Nat) ({ cls := "java/lang/String", name := "length", desc := "()I" } : Jvm.MethodName)) ∈ lw_all := lw_g (lw_at lw_m6 152 rfl) rfl
theorem q1492 : (Jvm.Cond.methodLink "java/lang/AbstractStringBuilder" (208 : Nat) ({ cls := "java/lang/AbstractStringBuilder", name := "putStringAt", desc := "(ILjava/lang/String;)V" } : Jvm.MethodName)) ∈ lw_all := lw_g (lw_at lw_m6 161 rfl) rfl
theorem q1493 : (Jvm.Cond.privateMethod ({ cls := "java/lang/AbstractStringBuilder", name := "putStringAt", desc := "(ILjava/lang/String;)V" } : Jvm.MethodName)) ∈ lw_tbl := lw_at lw_m6 162 rfl
theorem q1494 : (Jvm.Cond.instanceMethod ({ cls := "java/lang/AbstractStringBuilder", name := "putStringAt", desc := "(ILjava/lang/String;)V" } : Jvm.MethodName)) ∈ lw_all := lw_g (lw_at lw_m6 163 rfl) rfl
theorem q1495 : (Jvm.Cond.code ({ cls := "java/lang/AbstractStringBuilder", name := "putStringAt", desc := "(ILjava/lang/String;)V" } : Jvm.MethodName) prog_20_method_73_code (3 : Nat) (Option.none : Option Jvm.ClassFile.FieldType)) ∈ lw_all := lw_g (lw_at lw_m6 164 rfl) rfl
theorem q1496 : (Jvm.Cond.methodLink "java/lang/AbstractStringBuilder" (397 : Nat) ({ cls := "java/lang/AbstractStringBuilder", name := "inflateIfNeededFor", desc := "(Ljava/lang/String;)V" } : Jvm.MethodName)) ∈ lw_all := lw_g (lw_at lw_m6 165 rfl) rfl
theorem q1497 : (Jvm.Cond.privateMethod ({ cls := "java/lang/AbstractStringBuilder", name := "inflateIfNeededFor", desc := "(Ljava/lang/String;)V" } : Jvm.MethodName)) ∈ lw_tbl := lw_at lw_m6 166 rfl
theorem q1498 : (Jvm.Cond.instanceMethod ({ cls := "java/lang/AbstractStringBuilder", name := "inflateIfNeededFor", desc := "(Ljava/lang/String;)V" } : Jvm.MethodName)) ∈ lw_all := lw_g (lw_at lw_m6 167 rfl) rfl
theorem q1499 : (Jvm.Cond.code ({ cls := "java/lang/AbstractStringBuilder", name := "inflateIfNeededFor", desc := "(Ljava/lang/String;)V" } : Jvm.MethodName) prog_20_method_71_code (2 : Nat) (Option.none : Option Jvm.ClassFile.FieldType)) ∈ lw_all := lw_g (lw_at lw_m6 168 rfl) rfl
theorem q1500 : (Jvm.Cond.methodLink "java/lang/AbstractStringBuilder" (40 : Nat) ({ cls := "java/lang/String", name := "coder", desc := "()B" } : Jvm.MethodName)) ∈ lw_all := lw_g (lw_at lw_m6 169 rfl) rfl
theorem q1501 : (Jvm.Cond.methodLink "java/lang/AbstractStringBuilder" (195 : Nat) ({ cls := "java/lang/AbstractStringBuilder", name := "inflate", desc := "()V" } : Jvm.MethodName)) ∈ lw_all := lw_g (lw_at lw_m6 170 rfl) rfl
theorem q1502 : (Jvm.Cond.privateMethod ({ cls := "java/lang/AbstractStringBuilder", name := "inflate", desc := "()V" } : Jvm.MethodName)) ∈ lw_tbl := lw_at lw_m6 171 rfl
theorem q1503 : (Jvm.Cond.instanceMethod ({ cls := "java/lang/AbstractStringBuilder", name := "inflate", desc := "()V" } : Jvm.MethodName)) ∈ lw_all := lw_g (lw_at lw_m6 172 rfl) rfl
theorem q1504 : (Jvm.Cond.code ({ cls := "java/lang/AbstractStringBuilder", name := "inflate", desc := "()V" } : Jvm.MethodName) prog_20_method_11_code (2 : Nat) (Option.none : Option Jvm.ClassFile.FieldType)) ∈ lw_all := lw_g (lw_at lw_m6 173 rfl) rfl
theorem q1505 : (Jvm.Cond.methodLink "java/lang/AbstractStringBuilder" (125 : Nat) ({ cls := "java/lang/StringLatin1", name := "inflate", desc := "([BI[BII)V" } : Jvm.MethodName)) ∈ lw_all := lw_g (lw_at lw_m6 174 rfl) rfl
theorem q1520 : (Jvm.Cond.methodLink "java/lang/AbstractStringBuilder" (399 : Nat) ({ cls := "java/lang/String", name := "getBytes", desc := "([BIB)V" } : Jvm.MethodName)) ∈ lw_all := lw_g (lw_at lw_m6 189 rfl) rfl
theorem q1541 : (Jvm.Cond.instanceMethod ({ cls := "java/lang/AbstractStringBuilder", name := "getValue", desc := "()[B" } : Jvm.MethodName)) ∈ lw_all := lw_g (lw_at lw_m6 210 rfl) rfl
theorem q1542 : (Jvm.Cond.sameMethod "java/lang/AbstractStringBuilder" "java/lang/AbstractStringBuilder" "getValue" "()[B") ∈ lw_all := lw_g (lw_at lw_m6 211 rfl) rfl
theorem q1544 : (Jvm.Cond.code ({ cls := "java/lang/AbstractStringBuilder", name := "getValue", desc := "()[B" } : Jvm.MethodName) prog_20_method_64_code (1 : Nat) (Option.some (Jvm.ClassFile.FieldType.array Jvm.ClassFile.FieldType.byte))) ∈ lw_all := lw_g (lw_at lw_m6 213 rfl) rfl
theorem q1546 : (Jvm.Cond.instanceMethod ({ cls := "java/lang/AbstractStringBuilder", name := "length", desc := "()I" } : Jvm.MethodName)) ∈ lw_all := lw_g (lw_at lw_m6 215 rfl) rfl
theorem q1547 : (Jvm.Cond.sameMethod "java/lang/AbstractStringBuilder" "java/lang/AbstractStringBuilder" "length" "()I") ∈ lw_all := lw_g (lw_at lw_m6 216 rfl) rfl
theorem q1552 : (Jvm.Cond.code ({ cls := "java/lang/AbstractStringBuilder", name := "length", desc := "()I" } : Jvm.MethodName) prog_20_method_6_code (1 : Nat) (Option.some Jvm.ClassFile.FieldType.int)) ∈ lw_all := lw_g (lw_at lw_m6 221 rfl) rfl
theorem q1866 : (Jvm.Cond.instanceMethod ({ cls := "java/lang/AbstractStringBuilder", name := "append", desc := "(C)Ljava/lang/AbstractStringBuilder;" } : Jvm.MethodName)) ∈ lw_all := lw_g (lw_at lw_m8 55 rfl) rfl
theorem q1867 : (Jvm.Cond.code ({ cls := "java/lang/AbstractStringBuilder", name := "append", desc := "(C)Ljava/lang/AbstractStringBuilder;" } : Jvm.MethodName) prog_20_method_31_code (2 : Nat) (Option.some (Jvm.ClassFile.FieldType.object "java/lang/AbstractStringBuilder"))) ∈ lw_all := lw_g (lw_at lw_m8 56 rfl) rfl
theorem q1868 : (Jvm.Cond.methodLink "java/lang/AbstractStringBuilder" (191 : Nat) ({ cls := "java/lang/StringLatin1", name := "canEncode", desc := "(C)Z" } : Jvm.MethodName)) ∈ lw_all := lw_g (lw_at lw_m8 57 rfl) rfl
theorem q1871 : (Jvm.Cond.methodLink "java/lang/AbstractStringBuilder" (197 : Nat) ({ cls := "java/lang/StringUTF16", name := "putCharSB", desc := "([BII)V" } : Jvm.MethodName)) ∈ lw_all := lw_g (lw_at lw_m8 60 rfl) rfl
theorem q1890 : (Jvm.Cond.instanceMethod ({ cls := "java/lang/AbstractStringBuilder", name := "setLength", desc := "(I)V" } : Jvm.MethodName)) ∈ lw_all := lw_g (lw_at lw_m8 79 rfl) rfl
theorem q1891 : (Jvm.Cond.code ({ cls := "java/lang/AbstractStringBuilder", name := "setLength", desc := "(I)V" } : Jvm.MethodName) prog_20_method_13_code (2 : Nat) (Option.none : Option Jvm.ClassFile.FieldType)) ∈ lw_all := lw_g (lw_at lw_m8 80 rfl) rfl
theorem q1892 : (Jvm.Cond.methodLink "java/lang/AbstractStringBuilder" (133 : Nat) ({ cls := "java/lang/StringLatin1", name := "fillNull", desc := "([BII)V" } : Jvm.MethodName)) ∈ lw_all := lw_g (lw_at lw_m8 81 rfl) rfl
theorem q1901 : (Jvm.Cond.methodLink "java/lang/AbstractStringBuilder" (137 : Nat) ({ cls := "java/lang/StringUTF16", name := "fillNull", desc := "([BII)V" } : Jvm.MethodName)) ∈ lw_all := lw_g (lw_at lw_m8 90 rfl) rfl
theorem q1948 : (Jvm.Cond.instanceMethod ({ cls := "java/lang/AbstractStringBuilder", name := "charAt", desc := "(I)C" } : Jvm.MethodName)) ∈ lw_all := lw_g (lw_at lw_m8 137 rfl) rfl
theorem q1949 : (Jvm.Cond.code ({ cls := "java/lang/AbstractStringBuilder", name := "charAt", desc := "(I)C" } : Jvm.MethodName) prog_20_method_14_code (5 : Nat) (Option.some Jvm.ClassFile.FieldType.char)) ∈ lw_all := lw_g (lw_at lw_m8 138 rfl) rfl
theorem q1950 : (Jvm.Cond.methodLink "java/lang/AbstractStringBuilder" (138 : Nat) ({ cls := "java/lang/Math", name := "min", desc := "(II)I" } : Jvm.MethodName)) ∈ lw_all := lw_g (lw_at lw_m8 139 rfl) rfl
theorem q1951 : (Jvm.Cond.methodLink "java/lang/AbstractStringBuilder" (144 : Nat) ({ cls := "java/lang/String", name := "checkIndex", desc := "(II)V" } : Jvm.MethodName)) ∈ lw_all := lw_g (lw_at lw_m8 140 rfl) rfl
theorem q1952 : (Jvm.Cond.methodLink "java/lang/AbstractStringBuilder" (148 : Nat) ({ cls := "java/lang/StringUTF16", name := "getChar", desc := "([BI)C" } : Jvm.MethodName)) ∈ lw_all := lw_g (lw_at lw_m8 141 rfl) rfl
theorem q2978 : (Jvm.Cond.sameMethod "java/lang/AbstractStringBuilder" "java/lang/AbstractStringBuilder" "append" "(Ljava/lang/String;)Ljava/lang/AbstractStringBuilder;") ∈ lw_all := lw_g (lw_at lw_m12 207 rfl) rfl
theorem q2979 : (Jvm.Cond.sameMethod "java/lang/AbstractStringBuilder" "java/lang/AbstractStringBuilder" "appendNull" "()Ljava/lang/AbstractStringBuilder;") ∈ lw_all := lw_g (lw_at lw_m12 208 rfl) rfl
theorem q2980 : (Jvm.Cond.sameMethod "java/lang/AbstractStringBuilder" "java/lang/AbstractStringBuilder" "ensureCapacityInternal" "(I)V") ∈ lw_all := lw_g (lw_at lw_m12 209 rfl) rfl
theorem q2981 : (Jvm.Cond.sameMethod "java/lang/AbstractStringBuilder" "java/lang/AbstractStringBuilder" "newCapacity" "(I)I") ∈ lw_all := lw_g (lw_at lw_m12 210 rfl) rfl
theorem q2982 : (Jvm.Cond.sameMethod "java/lang/AbstractStringBuilder" "java/lang/AbstractStringBuilder" "putStringAt" "(ILjava/lang/String;)V") ∈ lw_all := lw_g (lw_at lw_m12 211 rfl) rfl
theorem q2983 : (Jvm.Cond.sameMethod "java/lang/AbstractStringBuilder" "java/lang/AbstractStringBuilder" "inflateIfNeededFor" "(Ljava/lang/String;)V") ∈ lw_all := lw_g (lw_at lw_m12 212 rfl) rfl
theorem q2984 : (Jvm.Cond.sameMethod "java/lang/AbstractStringBuilder" "java/lang/AbstractStringBuilder" "inflate" "()V") ∈ lw_all := lw_g (lw_at lw_m12 213 rfl) rfl
theorem q2988 : (Jvm.Cond.sameMethod "java/lang/AbstractStringBuilder" "java/lang/AbstractStringBuilder" "append" "(C)Ljava/lang/AbstractStringBuilder;") ∈ lw_all := lw_g (lw_at lw_m12 217 rfl) rfl
theorem q2989 : (Jvm.Cond.sameMethod "java/lang/AbstractStringBuilder" "java/lang/AbstractStringBuilder" "setLength" "(I)V") ∈ lw_all := lw_g (lw_at lw_m12 218 rfl) rfl
theorem q2990 : (Jvm.Cond.sameMethod "java/lang/AbstractStringBuilder" "java/lang/AbstractStringBuilder" "charAt" "(I)C") ∈ lw_all := lw_g (lw_at lw_m12 219 rfl) rfl
/-! java/lang/StringBuilder -/
set_option maxRecDepth 100000
def RJ8 : String := "java/lang/StringBuilder"
def TJ8 : u_T := fun k => match k with
  | 0 => ("java/lang/AbstractStringBuilder", "value", "[B", false)
  | 1 => ("java/lang/AbstractStringBuilder", "coder", "B", false)
  | 2 => ("java/lang/AbstractStringBuilder", "maybeLatin1", "Z", false)
  | _ => ("java/lang/AbstractStringBuilder", "count", "I", false)
def tyJ8 : Nat → FieldType := fun k => match k with
  | 0 => .array .byte
  | 1 => .byte
  | 2 => .boolean
  | _ => .int
abbrev wsJ80 : List Cond := u_ws RJ8 TJ8 4
theorem nmJ8 : ∀ a, a < 4 → ∀ b, b < 4 → a ≠ b → (TJ8 a).2.1 ≠ (TJ8 b).2.1 := by decide +kernel
theorem tyJ8_ok : ∀ k, k < 4 → parseFieldDescriptor (TJ8 k).2.2.1 = some (tyJ8 k) := by decide +kernel
abbrev cJ8_init : ByteArray := prog_34_method_1_code
def yJ8_init : MethodName := ⟨RJ8, "<init>", "()V"⟩
def dkwJ8_init_0 : List UInt8 := [42, 16, 16, 183, 0, 1, 177]
abbrev dktJ8_init_0 : List UInt8 := dkwJ8_init_0 ++ []
theorem dksJ8_init_0 : cJ8_init.data.toList.drop 0 = dktJ8_init_0 := by decide +kernel
theorem dJ8_init_0 : decode cJ8_init 0 = .ok (.aload_n 0, 1) := dk_42 (dk_at dksJ8_init_0 0 rfl rfl)
theorem dJ8_init_1 : decode cJ8_init 1 = .ok (.bipush 16, 2) := dk_16 16 (dk_at dksJ8_init_0 1 rfl rfl)
theorem dJ8_init_3 : decode cJ8_init 3 = .ok (.invokespecial 1, 3) := dk_183 0 1 (dk_at dksJ8_init_0 3 rfl rfl)
theorem dJ8_init_6 : decode cJ8_init 6 = .ok (.return_, 1) := dk_177 (dk_at dksJ8_init_0 6 rfl rfl)
abbrev cJ8_append : ByteArray := prog_34_method_7_code
def yJ8_append : MethodName := ⟨RJ8, "append", "(Ljava/lang/String;)Ljava/lang/StringBuilder;"⟩
def dkwJ8_append_0 : List UInt8 := [42, 43, 183, 0, 29, 87, 42, 176]
abbrev dktJ8_append_0 : List UInt8 := dkwJ8_append_0 ++ []
theorem dksJ8_append_0 : cJ8_append.data.toList.drop 0 = dktJ8_append_0 := by decide +kernel
theorem dJ8_append_0 : decode cJ8_append 0 = .ok (.aload_n 0, 1) := dk_42 (dk_at dksJ8_append_0 0 rfl rfl)
theorem dJ8_append_1 : decode cJ8_append 1 = .ok (.aload_n 1, 1) := dk_43 (dk_at dksJ8_append_0 1 rfl rfl)
theorem dJ8_append_2 : decode cJ8_append 2 = .ok (.invokespecial 29, 3) := dk_183 0 29 (dk_at dksJ8_append_0 2 rfl rfl)
theorem dJ8_append_5 : decode cJ8_append 5 = .ok (.pop, 1) := dk_87 (dk_at dksJ8_append_0 5 rfl rfl)
theorem dJ8_append_6 : decode cJ8_append 6 = .ok (.aload_n 0, 1) := dk_42 (dk_at dksJ8_append_0 6 rfl rfl)
theorem dJ8_append_7 : decode cJ8_append 7 = .ok (.areturn, 1) := dk_176 (dk_at dksJ8_append_0 7 rfl rfl)
abbrev cJ8_toString : ByteArray := prog_34_method_42_code
def yJ8_toString : MethodName := ⟨RJ8, "toString", "()Ljava/lang/String;"⟩
def dkwJ8_toString_0 : List UInt8 := [187, 0, 18, 89, 42, 183, 0, 137, 176]
abbrev dktJ8_toString_0 : List UInt8 := dkwJ8_toString_0 ++ []
theorem dksJ8_toString_0 : cJ8_toString.data.toList.drop 0 = dktJ8_toString_0 := by decide +kernel
theorem dJ8_toString_0 : decode cJ8_toString 0 = .ok (.new 18, 3) := dk_187 0 18 (dk_at dksJ8_toString_0 0 rfl rfl)
theorem dJ8_toString_3 : decode cJ8_toString 3 = .ok (.dup, 1) := dk_89 (dk_at dksJ8_toString_0 3 rfl rfl)
theorem dJ8_toString_4 : decode cJ8_toString 4 = .ok (.aload_n 0, 1) := dk_42 (dk_at dksJ8_toString_0 4 rfl rfl)
theorem dJ8_toString_5 : decode cJ8_toString 5 = .ok (.invokespecial 137, 3) := dk_183 0 137 (dk_at dksJ8_toString_0 5 rfl rfl)
theorem dJ8_toString_8 : decode cJ8_toString 8 = .ok (.areturn, 1) := dk_176 (dk_at dksJ8_toString_0 8 rfl rfl)
abbrev cJ8_length : ByteArray := prog_34_method_93_code
def yJ8_length : MethodName := ⟨RJ8, "length", "()I"⟩
theorem dJ8_length_0 : decode cJ8_length 0 = .ok (.aload_n 0, 1) := by decide +kernel
theorem dJ8_length_1 : decode cJ8_length 1 = .ok (.invokespecial 343, 3) := by decide +kernel
theorem dJ8_length_4 : decode cJ8_length 4 = .ok (.ireturn, 1) := by decide +kernel
abbrev cJ8_append_2 : ByteArray := prog_34_method_14_code
def yJ8_append_2 : MethodName := ⟨RJ8, "append", "(C)Ljava/lang/StringBuilder;"⟩
def dkwJ8_append_2_0 : List UInt8 := [42, 27, 183, 0, 50, 87, 42, 176]
abbrev dktJ8_append_2_0 : List UInt8 := dkwJ8_append_2_0 ++ []
theorem dksJ8_append_2_0 : cJ8_append_2.data.toList.drop 0 = dktJ8_append_2_0 := by decide +kernel
theorem dJ8_append_2_0 : decode cJ8_append_2 0 = .ok (.aload_n 0, 1) := dk_42 (dk_at dksJ8_append_2_0 0 rfl rfl)
theorem dJ8_append_2_1 : decode cJ8_append_2 1 = .ok (.iload_n 1, 1) := dk_27 (dk_at dksJ8_append_2_0 1 rfl rfl)
theorem dJ8_append_2_2 : decode cJ8_append_2 2 = .ok (.invokespecial 50, 3) := dk_183 0 50 (dk_at dksJ8_append_2_0 2 rfl rfl)
theorem dJ8_append_2_5 : decode cJ8_append_2 5 = .ok (.pop, 1) := dk_87 (dk_at dksJ8_append_2_0 5 rfl rfl)
theorem dJ8_append_2_6 : decode cJ8_append_2 6 = .ok (.aload_n 0, 1) := dk_42 (dk_at dksJ8_append_2_0 6 rfl rfl)
theorem dJ8_append_2_7 : decode cJ8_append_2 7 = .ok (.areturn, 1) := dk_176 (dk_at dksJ8_append_2_0 7 rfl rfl)
abbrev cJ8_setLength : ByteArray := prog_34_method_89_code
def yJ8_setLength : MethodName := ⟨RJ8, "setLength", "(I)V"⟩
def dkwJ8_setLength_0 : List UInt8 := [42, 27, 183, 1, 77, 177]
abbrev dktJ8_setLength_0 : List UInt8 := dkwJ8_setLength_0 ++ []
theorem dksJ8_setLength_0 : cJ8_setLength.data.toList.drop 0 = dktJ8_setLength_0 := by decide +kernel
theorem dJ8_setLength_0 : decode cJ8_setLength 0 = .ok (.aload_n 0, 1) := dk_42 (dk_at dksJ8_setLength_0 0 rfl rfl)
theorem dJ8_setLength_1 : decode cJ8_setLength 1 = .ok (.iload_n 1, 1) := dk_27 (dk_at dksJ8_setLength_0 1 rfl rfl)
theorem dJ8_setLength_2 : decode cJ8_setLength 2 = .ok (.invokespecial 333, 3) := dk_183 1 77 (dk_at dksJ8_setLength_0 2 rfl rfl)
theorem dJ8_setLength_5 : decode cJ8_setLength 5 = .ok (.return_, 1) := dk_177 (dk_at dksJ8_setLength_0 5 rfl rfl)
abbrev cJ8_charAt : ByteArray := prog_34_method_88_code
def yJ8_charAt : MethodName := ⟨RJ8, "charAt", "(I)C"⟩
def dkwJ8_charAt_0 : List UInt8 := [42, 27, 183, 1, 73, 172]
abbrev dktJ8_charAt_0 : List UInt8 := dkwJ8_charAt_0 ++ []
theorem dksJ8_charAt_0 : cJ8_charAt.data.toList.drop 0 = dktJ8_charAt_0 := by decide +kernel
theorem dJ8_charAt_0 : decode cJ8_charAt 0 = .ok (.aload_n 0, 1) := dk_42 (dk_at dksJ8_charAt_0 0 rfl rfl)
theorem dJ8_charAt_1 : decode cJ8_charAt 1 = .ok (.iload_n 1, 1) := dk_27 (dk_at dksJ8_charAt_0 1 rfl rfl)
theorem dJ8_charAt_2 : decode cJ8_charAt 2 = .ok (.invokespecial 329, 3) := dk_183 1 73 (dk_at dksJ8_charAt_0 2 rfl rfl)
theorem dJ8_charAt_5 : decode cJ8_charAt 5 = .ok (.ireturn, 1) := dk_172 (dk_at dksJ8_charAt_0 5 rfl rfl)
theorem q143 : (Jvm.Cond.initialized "java/lang/StringBuilder") ∈ lw_all := lw_g (lw_at lw_m1 12 rfl) rfl
theorem q346 : (Jvm.Cond.instantiable "java/lang/StringBuilder" (4 : Nat)) ∈ lw_all := lw_g (lw_at lw_m1 215 rfl) rfl
theorem q348 : (Jvm.Cond.instanceMethod ({ cls := "java/lang/StringBuilder", name := "<init>", desc := "()V" } : Jvm.MethodName)) ∈ lw_all := lw_g (lw_at lw_m1 217 rfl) rfl
theorem q349 : (Jvm.Cond.code ({ cls := "java/lang/StringBuilder", name := "<init>", desc := "()V" } : Jvm.MethodName) prog_34_method_1_code (1 : Nat) (Option.none : Option Jvm.ClassFile.FieldType)) ∈ lw_all := lw_g (lw_at lw_m1 218 rfl) rfl
theorem q350 : (Jvm.Cond.methodLink "java/lang/StringBuilder" (1 : Nat) ({ cls := "java/lang/AbstractStringBuilder", name := "<init>", desc := "(I)V" } : Jvm.MethodName)) ∈ lw_all := lw_g (lw_at lw_m1 219 rfl) rfl
theorem q368 : (Jvm.Cond.lays "java/lang/StringBuilder" "java/lang/AbstractStringBuilder" "value" "[B") ∈ lw_all := lw_g (lw_at lw_m1 237 rfl) rfl
theorem q370 : (Jvm.Cond.lays "java/lang/StringBuilder" "java/lang/AbstractStringBuilder" "coder" "B") ∈ lw_all := lw_g (lw_at lw_m1 239 rfl) rfl
theorem q372 : (Jvm.Cond.lays "java/lang/StringBuilder" "java/lang/AbstractStringBuilder" "maybeLatin1" "Z") ∈ lw_all := lw_g (lw_at lw_m2 1 rfl) rfl
theorem q374 : (Jvm.Cond.lays "java/lang/StringBuilder" "java/lang/AbstractStringBuilder" "count" "I") ∈ lw_all := lw_g (lw_at lw_m2 3 rfl) rfl
theorem q376 : (Jvm.Cond.superclass "java/lang/StringBuilder" "java/lang/AbstractStringBuilder") ∈ lw_all := lw_g (lw_at lw_m2 5 rfl) rfl
theorem q833 : (Jvm.Cond.selects "java/lang/StringBuilder" ({ cls := "java/lang/Object", name := "getClass", desc := "()Ljava/lang/Class;" } : Jvm.MethodName) ({ cls := "java/lang/Object", name := "getClass", desc := "()Ljava/lang/Class;" } : Jvm.MethodName)) ∈ lw_all := lw_g (lw_at lw_m3 222 rfl) rfl
theorem q1424 : (Jvm.Cond.instanceMethod ({ cls := "java/lang/StringBuilder", name := "append", desc := "(Ljava/lang/String;)Ljava/lang/StringBuilder;" } : Jvm.MethodName)) ∈ lw_all := lw_g (lw_at lw_m6 93 rfl) rfl
theorem q1425 : (Jvm.Cond.selects "java/lang/StringBuilder" ({ cls := "java/lang/StringBuilder", name := "append", desc := "(Ljava/lang/String;)Ljava/lang/StringBuilder;" } : Jvm.MethodName) ({ cls := "java/lang/StringBuilder", name := "append", desc := "(Ljava/lang/String;)Ljava/lang/StringBuilder;" } : Jvm.MethodName)) ∈ lw_all := lw_g (lw_at lw_m6 94 rfl) rfl
theorem q1426 : (Jvm.Cond.code ({ cls := "java/lang/StringBuilder", name := "append", desc := "(Ljava/lang/String;)Ljava/lang/StringBuilder;" } : Jvm.MethodName) prog_34_method_7_code (2 : Nat) (Option.some (Jvm.ClassFile.FieldType.object "java/lang/StringBuilder"))) ∈ lw_all := lw_g (lw_at lw_m6 95 rfl) rfl
theorem q1427 : (Jvm.Cond.methodLink "java/lang/StringBuilder" (29 : Nat) ({ cls := "java/lang/AbstractStringBuilder", name := "append", desc := "(Ljava/lang/String;)Ljava/lang/AbstractStringBuilder;" } : Jvm.MethodName)) ∈ lw_all := lw_g (lw_at lw_m6 96 rfl) rfl
theorem q1455 : (Jvm.Cond.selects "java/lang/StringBuilder" ({ cls := "java/lang/AbstractStringBuilder", name := "isLatin1", desc := "()Z" } : Jvm.MethodName) ({ cls := "java/lang/AbstractStringBuilder", name := "isLatin1", desc := "()Z" } : Jvm.MethodName)) ∈ lw_all := lw_g (lw_at lw_m6 124 rfl) rfl
theorem q1528 : (Jvm.Cond.instanceMethod ({ cls := "java/lang/StringBuilder", name := "toString", desc := "()Ljava/lang/String;" } : Jvm.MethodName)) ∈ lw_all := lw_g (lw_at lw_m6 197 rfl) rfl
theorem q1529 : (Jvm.Cond.selects "java/lang/StringBuilder" ({ cls := "java/lang/StringBuilder", name := "toString", desc := "()Ljava/lang/String;" } : Jvm.MethodName) ({ cls := "java/lang/StringBuilder", name := "toString", desc := "()Ljava/lang/String;" } : Jvm.MethodName)) ∈ lw_all := lw_g (lw_at lw_m6 198 rfl) rfl
theorem q1530 : (Jvm.Cond.code ({ cls := "java/lang/StringBuilder", name := "toString", desc := "()Ljava/lang/String;" } : Jvm.MethodName) prog_34_method_42_code (1 : Nat) (Option.some (Jvm.ClassFile.FieldType.object "java/lang/String"))) ∈ lw_all := lw_g (lw_at lw_m6 199 rfl) rfl
theorem q1531 : (Jvm.Cond.classLink "java/lang/StringBuilder" (18 : Nat) "java/lang/String") ∈ lw_all := lw_g (lw_at lw_m6 200 rfl) rfl
theorem q1533 : (Jvm.Cond.methodLink "java/lang/StringBuilder" (137 : Nat) ({ cls := "java/lang/String", name := "<init>", desc := "(Ljava/lang/StringBuilder;)V" } : Jvm.MethodName)) ∈ lw_all := lw_g (lw_at lw_m6 202 rfl) rfl
theorem q1543 : (Jvm.Cond.selects "java/lang/StringBuilder" ({ cls := "java/lang/AbstractStringBuilder", name := "getValue", desc := "()[B" } : Jvm.MethodName) ({ cls := "java/lang/AbstractStringBuilder", name := "getValue", desc := "()[B" } : Jvm.MethodName)) ∈ lw_all := lw_g (lw_at lw_m6 212 rfl) rfl
theorem q1548 : (Jvm.Cond.selects "java/lang/StringBuilder" ({ cls := "java/lang/AbstractStringBuilder", name := "length", desc := "()I" } : Jvm.MethodName) ({ cls := "java/lang/StringBuilder", name := "length", desc := "()I" } : Jvm.MethodName)) ∈ lw_all := lw_g (lw_at lw_m6 217 rfl) rfl
theorem q1549 : (Jvm.Cond.instanceMethod ({ cls := "java/lang/StringBuilder", name := "length", desc := "()I" } : Jvm.MethodName)) ∈ lw_all := lw_g (lw_at lw_m6 218 rfl) rfl
theorem q1550 : (Jvm.Cond.code ({ cls := "java/lang/StringBuilder", name := "length", desc := "()I" } : Jvm.MethodName) prog_34_method_93_code (1 : Nat) (Option.some Jvm.ClassFile.FieldType.int)) ∈ lw_all := lw_g (lw_at lw_m6 219 rfl) rfl
theorem q1551 : (Jvm.Cond.methodLink "java/lang/StringBuilder" (343 : Nat) ({ cls := "java/lang/AbstractStringBuilder", name := "length", desc := "()I" } : Jvm.MethodName)) ∈ lw_all := lw_g (lw_at lw_m6 220 rfl) rfl
theorem q1862 : (Jvm.Cond.instanceMethod ({ cls := "java/lang/StringBuilder", name := "append", desc := "(C)Ljava/lang/StringBuilder;" } : Jvm.MethodName)) ∈ lw_all := lw_g (lw_at lw_m8 51 rfl) rfl
theorem q1863 : (Jvm.Cond.selects "java/lang/StringBuilder" ({ cls := "java/lang/StringBuilder", name := "append", desc := "(C)Ljava/lang/StringBuilder;" } : Jvm.MethodName) ({ cls := "java/lang/StringBuilder", name := "append", desc := "(C)Ljava/lang/StringBuilder;" } : Jvm.MethodName)) ∈ lw_all := lw_g (lw_at lw_m8 52 rfl) rfl
theorem q1864 : (Jvm.Cond.code ({ cls := "java/lang/StringBuilder", name := "append", desc := "(C)Ljava/lang/StringBuilder;" } : Jvm.MethodName) prog_34_method_14_code (2 : Nat) (Option.some (Jvm.ClassFile.FieldType.object "java/lang/StringBuilder"))) ∈ lw_all := lw_g (lw_at lw_m8 53 rfl) rfl
theorem q1865 : (Jvm.Cond.methodLink "java/lang/StringBuilder" (50 : Nat) ({ cls := "java/lang/AbstractStringBuilder", name := "append", desc := "(C)Ljava/lang/AbstractStringBuilder;" } : Jvm.MethodName)) ∈ lw_all := lw_g (lw_at lw_m8 54 rfl) rfl
theorem q1886 : (Jvm.Cond.instanceMethod ({ cls := "java/lang/StringBuilder", name := "setLength", desc := "(I)V" } : Jvm.MethodName)) ∈ lw_all := lw_g (lw_at lw_m8 75 rfl) rfl
theorem q1887 : (Jvm.Cond.selects "java/lang/StringBuilder" ({ cls := "java/lang/StringBuilder", name := "setLength", desc := "(I)V" } : Jvm.MethodName) ({ cls := "java/lang/StringBuilder", name := "setLength", desc := "(I)V" } : Jvm.MethodName)) ∈ lw_all := lw_g (lw_at lw_m8 76 rfl) rfl
theorem q1888 : (Jvm.Cond.code ({ cls := "java/lang/StringBuilder", name := "setLength", desc := "(I)V" } : Jvm.MethodName) prog_34_method_89_code (2 : Nat) (Option.none : Option Jvm.ClassFile.FieldType)) ∈ lw_all := lw_g (lw_at lw_m8 77 rfl) rfl
theorem q1889 : (Jvm.Cond.methodLink "java/lang/StringBuilder" (333 : Nat) ({ cls := "java/lang/AbstractStringBuilder", name := "setLength", desc := "(I)V" } : Jvm.MethodName)) ∈ lw_all := lw_g (lw_at lw_m8 78 rfl) rfl
theorem q1944 : (Jvm.Cond.instanceMethod ({ cls := "java/lang/StringBuilder", name := "charAt", desc := "(I)C" } : Jvm.MethodName)) ∈ lw_all := lw_g (lw_at lw_m8 133 rfl) rfl
theorem q1945 : (Jvm.Cond.selects "java/lang/StringBuilder" ({ cls := "java/lang/StringBuilder", name := "charAt", desc := "(I)C" } : Jvm.MethodName) ({ cls := "java/lang/StringBuilder", name := "charAt", desc := "(I)C" } : Jvm.MethodName)) ∈ lw_all := lw_g (lw_at lw_m8 134 rfl) rfl
theorem q1946 : (Jvm.Cond.code ({ cls := "java/lang/StringBuilder", name := "charAt", desc := "(I)C" } : Jvm.MethodName) prog_34_method_88_code (2 : Nat) (Option.some Jvm.ClassFile.FieldType.char)) ∈ lw_all := lw_g (lw_at lw_m8 135 rfl) rfl
theorem q1947 : (Jvm.Cond.methodLink "java/lang/StringBuilder" (329 : Nat) ({ cls := "java/lang/AbstractStringBuilder", name := "charAt", desc := "(I)C" } : Jvm.MethodName)) ∈ lw_all := lw_g (lw_at lw_m8 136 rfl) rfl
theorem q2987 : (Jvm.Cond.selects "java/lang/StringBuilder" ({ cls := "java/lang/StringBuilder", name := "length", desc := "()I" } : Jvm.MethodName) ({ cls := "java/lang/StringBuilder", name := "length", desc := "()I" } : Jvm.MethodName)) ∈ lw_all := lw_g (lw_at lw_m12 216 rfl) rfl
theorem q3005 : (Jvm.Cond.castable "java/lang/StringBuilder" "java/lang/Object") ∈ lw_tbl := lw_at lw_m12 234 rfl
theorem in_J8 : ∀ w ∈ wsJ80, w ∈ lw_all := lw_in wsJ80 [368, 370, 372, 374] (by decide +kernel) (by decide +kernel)
/-! java/lang/String -/
set_option maxRecDepth 100000
def RJ9 : String := "java/lang/String"
def TJ9 : u_T := fun k => match k with
  | 0 => ("java/lang/String", "value", "[B", true)
  | 1 => ("java/lang/String", "coder", "B", true)
  | 2 => ("java/lang/String", "hash", "I", false)
  | _ => ("java/lang/String", "hashIsZero", "Z", false)
def tyJ9 : Nat → FieldType := fun k => match k with
  | 0 => .array .byte
  | 1 => .byte
  | 2 => .int
  | _ => .boolean
abbrev wsJ90 : List Cond := u_ws RJ9 TJ9 4
theorem nmJ9 : ∀ a, a < 4 → ∀ b, b < 4 → a ≠ b → (TJ9 a).2.1 ≠ (TJ9 b).2.1 := by decide +kernel
theorem tyJ9_ok : ∀ k, k < 4 → parseFieldDescriptor (TJ9 k).2.2.1 = some (tyJ9 k) := by decide +kernel
abbrev cJ9_checkBoundsBeginEnd : ByteArray := prog_33_method_158_code
def yJ9_checkBoundsBeginEnd : MethodName := ⟨RJ9, "checkBoundsBeginEnd", "(III)V"⟩
def dkwJ9_checkBoundsBeginEnd_0 : List UInt8 := [26, 27, 28, 178, 4, 29, 184, 4, 38, 87, 177]
abbrev dktJ9_checkBoundsBeginEnd_0 : List UInt8 := dkwJ9_checkBoundsBeginEnd_0 ++ []
theorem dksJ9_checkBoundsBeginEnd_0 : cJ9_checkBoundsBeginEnd.data.toList.drop 0 = dktJ9_checkBoundsBeginEnd_0 := by decide +kernel
theorem dJ9_checkBoundsBeginEnd_0 : decode cJ9_checkBoundsBeginEnd 0 = .ok (.iload_n 0, 1) := dk_26 (dk_at dksJ9_checkBoundsBeginEnd_0 0 rfl rfl)
theorem dJ9_checkBoundsBeginEnd_1 : decode cJ9_checkBoundsBeginEnd 1 = .ok (.iload_n 1, 1) := dk_27 (dk_at dksJ9_checkBoundsBeginEnd_0 1 rfl rfl)
theorem dJ9_checkBoundsBeginEnd_2 : decode cJ9_checkBoundsBeginEnd 2 = .ok (.iload_n 2, 1) := dk_28 (dk_at dksJ9_checkBoundsBeginEnd_0 2 rfl rfl)
theorem dJ9_checkBoundsBeginEnd_3 : decode cJ9_checkBoundsBeginEnd 3 = .ok (.getstatic 1053, 3) := dk_178 4 29 (dk_at dksJ9_checkBoundsBeginEnd_0 3 rfl rfl)
theorem dJ9_checkBoundsBeginEnd_6 : decode cJ9_checkBoundsBeginEnd 6 = .ok (.invokestatic 1062, 3) := dk_184 4 38 (dk_at dksJ9_checkBoundsBeginEnd_0 6 rfl rfl)
theorem dJ9_checkBoundsBeginEnd_9 : decode cJ9_checkBoundsBeginEnd 9 = .ok (.pop, 1) := dk_87 (dk_at dksJ9_checkBoundsBeginEnd_0 9 rfl rfl)
theorem dJ9_checkBoundsBeginEnd_10 : decode cJ9_checkBoundsBeginEnd 10 = .ok (.return_, 1) := dk_177 (dk_at dksJ9_checkBoundsBeginEnd_0 10 rfl rfl)
abbrev cJ9_length : ByteArray := prog_33_method_54_code
def yJ9_length : MethodName := ⟨RJ9, "length", "()I"⟩
def dkwJ9_length_0 : List UInt8 := [42, 180, 0, 9, 190, 42, 182, 1, 79, 122, 172]
abbrev dktJ9_length_0 : List UInt8 := dkwJ9_length_0 ++ []
theorem dksJ9_length_0 : cJ9_length.data.toList.drop 0 = dktJ9_length_0 := by decide +kernel
theorem dJ9_length_0 : decode cJ9_length 0 = .ok (.aload_n 0, 1) := dk_42 (dk_at dksJ9_length_0 0 rfl rfl)
theorem dJ9_length_1 : decode cJ9_length 1 = .ok (.getfield 9, 3) := dk_180 0 9 (dk_at dksJ9_length_0 1 rfl rfl)
theorem dJ9_length_4 : decode cJ9_length 4 = .ok (.arraylength, 1) := dk_190 (dk_at dksJ9_length_0 4 rfl rfl)
theorem dJ9_length_5 : decode cJ9_length 5 = .ok (.aload_n 0, 1) := dk_42 (dk_at dksJ9_length_0 5 rfl rfl)
theorem dJ9_length_6 : decode cJ9_length 6 = .ok (.invokevirtual 335, 3) := dk_182 1 79 (dk_at dksJ9_length_0 6 rfl rfl)
theorem dJ9_length_9 : decode cJ9_length 9 = .ok (.ishr, 1) := dk_122 (dk_at dksJ9_length_0 9 rfl rfl)
theorem dJ9_length_10 : decode cJ9_length 10 = .ok (.ireturn, 1) := dk_172 (dk_at dksJ9_length_0 10 rfl rfl)
abbrev cJ9_coder : ByteArray := prog_33_method_152_code
def yJ9_coder : MethodName := ⟨RJ9, "coder", "()B"⟩
def dkwJ9_coder_0 : List UInt8 := [178, 0, 38, 153, 0, 10, 42, 180, 0, 15, 167, 0, 4, 4, 172]
abbrev dktJ9_coder_0 : List UInt8 := dkwJ9_coder_0 ++ []
theorem dksJ9_coder_0 : cJ9_coder.data.toList.drop 0 = dktJ9_coder_0 := by decide +kernel
theorem dJ9_coder_0 : decode cJ9_coder 0 = .ok (.getstatic 38, 3) := dk_178 0 38 (dk_at dksJ9_coder_0 0 rfl rfl)
theorem dJ9_coder_3 : decode cJ9_coder 3 = .ok (.ifCond .eq 10, 3) := dk_153 0 10 (dk_at dksJ9_coder_0 3 rfl rfl)
theorem dJ9_coder_6 : decode cJ9_coder 6 = .ok (.aload_n 0, 1) := dk_42 (dk_at dksJ9_coder_0 6 rfl rfl)
theorem dJ9_coder_7 : decode cJ9_coder 7 = .ok (.getfield 15, 3) := dk_180 0 15 (dk_at dksJ9_coder_0 7 rfl rfl)
theorem dJ9_coder_10 : decode cJ9_coder 10 = .ok (.goto 4, 3) := dk_167 0 4 (dk_at dksJ9_coder_0 10 rfl rfl)
theorem dJ9_coder_13 : decode cJ9_coder 13 = .ok (.iconst 1, 1) := dk_4 (dk_at dksJ9_coder_0 13 rfl rfl)
theorem dJ9_coder_14 : decode cJ9_coder 14 = .ok (.ireturn, 1) := dk_172 (dk_at dksJ9_coder_0 14 rfl rfl)
abbrev cJ9_checkBoundsOffCount : ByteArray := prog_33_method_157_code
def yJ9_checkBoundsOffCount : MethodName := ⟨RJ9, "checkBoundsOffCount", "(III)I"⟩
def dkwJ9_checkBoundsOffCount_0 : List UInt8 := [26, 27, 28, 178, 4, 29, 184, 4, 41, 172]
abbrev dktJ9_checkBoundsOffCount_0 : List UInt8 := dkwJ9_checkBoundsOffCount_0 ++ []
theorem dksJ9_checkBoundsOffCount_0 : cJ9_checkBoundsOffCount.data.toList.drop 0 = dktJ9_checkBoundsOffCount_0 := by decide +kernel
theorem dJ9_checkBoundsOffCount_0 : decode cJ9_checkBoundsOffCount 0 = .ok (.iload_n 0, 1) := dk_26 (dk_at dksJ9_checkBoundsOffCount_0 0 rfl rfl)
theorem dJ9_checkBoundsOffCount_1 : decode cJ9_checkBoundsOffCount 1 = .ok (.iload_n 1, 1) := dk_27 (dk_at dksJ9_checkBoundsOffCount_0 1 rfl rfl)
theorem dJ9_checkBoundsOffCount_2 : decode cJ9_checkBoundsOffCount 2 = .ok (.iload_n 2, 1) := dk_28 (dk_at dksJ9_checkBoundsOffCount_0 2 rfl rfl)
theorem dJ9_checkBoundsOffCount_3 : decode cJ9_checkBoundsOffCount 3 = .ok (.getstatic 1053, 3) := dk_178 4 29 (dk_at dksJ9_checkBoundsOffCount_0 3 rfl rfl)
theorem dJ9_checkBoundsOffCount_6 : decode cJ9_checkBoundsOffCount 6 = .ok (.invokestatic 1065, 3) := dk_184 4 41 (dk_at dksJ9_checkBoundsOffCount_0 6 rfl rfl)
theorem dJ9_checkBoundsOffCount_9 : decode cJ9_checkBoundsOffCount 9 = .ok (.ireturn, 1) := dk_172 (dk_at dksJ9_checkBoundsOffCount_0 9 rfl rfl)
abbrev cJ9_getBytes : ByteArray := prog_33_method_147_code
def yJ9_getBytes : MethodName := ⟨RJ9, "getBytes", "([BIB)V"⟩
def dkwJ9_getBytes_1 : List UInt8 := [184, 0, 212, 167, 0, 18, 42, 180, 0, 9, 3, 43, 28, 42, 180, 0, 9, 190, 184, 0, 106, 177]
abbrev dktJ9_getBytes_1 : List UInt8 := dkwJ9_getBytes_1 ++ []
def dkwJ9_getBytes_0 : List UInt8 := [42, 182, 1, 79, 29, 160, 0, 23, 42, 180, 0, 9, 3, 43, 28, 29, 120, 42, 180, 0, 9, 190]
abbrev dktJ9_getBytes_0 : List UInt8 := dkwJ9_getBytes_0 ++ dktJ9_getBytes_1
theorem dksJ9_getBytes_0 : cJ9_getBytes.data.toList.drop 0 = dktJ9_getBytes_0 := by decide +kernel
theorem dksJ9_getBytes_1 : cJ9_getBytes.data.toList.drop 22 = dktJ9_getBytes_1 := dk_seg dksJ9_getBytes_0 22 rfl rfl
theorem dJ9_getBytes_0 : decode cJ9_getBytes 0 = .ok (.aload_n 0, 1) := dk_42 (dk_at dksJ9_getBytes_0 0 rfl rfl)
theorem dJ9_getBytes_1 : decode cJ9_getBytes 1 = .ok (.invokevirtual 335, 3) := dk_182 1 79 (dk_at dksJ9_getBytes_0 1 rfl rfl)
theorem dJ9_getBytes_4 : decode cJ9_getBytes 4 = .ok (.iload_n 3, 1) := dk_29 (dk_at dksJ9_getBytes_0 4 rfl rfl)
theorem dJ9_getBytes_5 : decode cJ9_getBytes 5 = .ok (.if_icmp .ne 23, 3) := dk_160 0 23 (dk_at dksJ9_getBytes_0 5 rfl rfl)
theorem dJ9_getBytes_8 : decode cJ9_getBytes 8 = .ok (.aload_n 0, 1) := dk_42 (dk_at dksJ9_getBytes_0 8 rfl rfl)
theorem dJ9_getBytes_9 : decode cJ9_getBytes 9 = .ok (.getfield 9, 3) := dk_180 0 9 (dk_at dksJ9_getBytes_0 9 rfl rfl)
theorem dJ9_getBytes_12 : decode cJ9_getBytes 12 = .ok (.iconst 0, 1) := dk_3 (dk_at dksJ9_getBytes_0 12 rfl rfl)
theorem dJ9_getBytes_13 : decode cJ9_getBytes 13 = .ok (.aload_n 1, 1) := dk_43 (dk_at dksJ9_getBytes_0 13 rfl rfl)
theorem dJ9_getBytes_14 : decode cJ9_getBytes 14 = .ok (.iload_n 2, 1) := dk_28 (dk_at dksJ9_getBytes_0 14 rfl rfl)
theorem dJ9_getBytes_15 : decode cJ9_getBytes 15 = .ok (.iload_n 3, 1) := dk_29 (dk_at dksJ9_getBytes_0 15 rfl rfl)
theorem dJ9_getBytes_16 : decode cJ9_getBytes 16 = .ok (.ishl, 1) := dk_120 (dk_at dksJ9_getBytes_0 16 rfl rfl)
theorem dJ9_getBytes_17 : decode cJ9_getBytes 17 = .ok (.aload_n 0, 1) := dk_42 (dk_at dksJ9_getBytes_0 17 rfl rfl)
theorem dJ9_getBytes_18 : decode cJ9_getBytes 18 = .ok (.getfield 9, 3) := dk_180 0 9 (dk_at dksJ9_getBytes_0 18 rfl rfl)
theorem dJ9_getBytes_21 : decode cJ9_getBytes 21 = .ok (.arraylength, 1) := dk_190 (dk_at dksJ9_getBytes_0 21 rfl rfl)
theorem dJ9_getBytes_22 : decode cJ9_getBytes 22 = .ok (.invokestatic 212, 3) := dk_184 0 212 (dk_at dksJ9_getBytes_1 0 rfl rfl)
theorem dJ9_getBytes_25 : decode cJ9_getBytes 25 = .ok (.goto 18, 3) := dk_167 0 18 (dk_at dksJ9_getBytes_1 3 rfl rfl)
theorem dJ9_getBytes_28 : decode cJ9_getBytes 28 = .ok (.aload_n 0, 1) := dk_42 (dk_at dksJ9_getBytes_1 6 rfl rfl)
theorem dJ9_getBytes_29 : decode cJ9_getBytes 29 = .ok (.getfield 9, 3) := dk_180 0 9 (dk_at dksJ9_getBytes_1 7 rfl rfl)
theorem dJ9_getBytes_32 : decode cJ9_getBytes 32 = .ok (.iconst 0, 1) := dk_3 (dk_at dksJ9_getBytes_1 10 rfl rfl)
theorem dJ9_getBytes_33 : decode cJ9_getBytes 33 = .ok (.aload_n 1, 1) := dk_43 (dk_at dksJ9_getBytes_1 11 rfl rfl)
theorem dJ9_getBytes_34 : decode cJ9_getBytes 34 = .ok (.iload_n 2, 1) := dk_28 (dk_at dksJ9_getBytes_1 12 rfl rfl)
theorem dJ9_getBytes_35 : decode cJ9_getBytes 35 = .ok (.aload_n 0, 1) := dk_42 (dk_at dksJ9_getBytes_1 13 rfl rfl)
theorem dJ9_getBytes_36 : decode cJ9_getBytes 36 = .ok (.getfield 9, 3) := dk_180 0 9 (dk_at dksJ9_getBytes_1 14 rfl rfl)
theorem dJ9_getBytes_39 : decode cJ9_getBytes 39 = .ok (.arraylength, 1) := dk_190 (dk_at dksJ9_getBytes_1 17 rfl rfl)
theorem dJ9_getBytes_40 : decode cJ9_getBytes 40 = .ok (.invokestatic 106, 3) := dk_184 0 106 (dk_at dksJ9_getBytes_1 18 rfl rfl)
theorem dJ9_getBytes_43 : decode cJ9_getBytes 43 = .ok (.return_, 1) := dk_177 (dk_at dksJ9_getBytes_1 21 rfl rfl)
abbrev cJ9_init : ByteArray := prog_33_method_53_code
def yJ9_init : MethodName := ⟨RJ9, "<init>", "(Ljava/lang/StringBuilder;)V"⟩
def dkwJ9_init_0 : List UInt8 := [42, 43, 1, 183, 1, 233, 177]
abbrev dktJ9_init_0 : List UInt8 := dkwJ9_init_0 ++ []
theorem dksJ9_init_0 : cJ9_init.data.toList.drop 0 = dktJ9_init_0 := by decide +kernel
theorem dJ9_init_0 : decode cJ9_init 0 = .ok (.aload_n 0, 1) := dk_42 (dk_at dksJ9_init_0 0 rfl rfl)
theorem dJ9_init_1 : decode cJ9_init 1 = .ok (.aload_n 1, 1) := dk_43 (dk_at dksJ9_init_0 1 rfl rfl)
theorem dJ9_init_2 : decode cJ9_init 2 = .ok (.aconst_null, 1) := dk_1 (dk_at dksJ9_init_0 2 rfl rfl)
theorem dJ9_init_3 : decode cJ9_init 3 = .ok (.invokespecial 489, 3) := dk_183 1 233 (dk_at dksJ9_init_0 3 rfl rfl)
theorem dJ9_init_6 : decode cJ9_init 6 = .ok (.return_, 1) := dk_177 (dk_at dksJ9_init_0 6 rfl rfl)
abbrev cJ9_init_2 : ByteArray := prog_33_method_150_code
def yJ9_init_2 : MethodName := ⟨RJ9, "<init>", "(Ljava/lang/AbstractStringBuilder;Ljava/lang/Void;)V"⟩
def dkwJ9_init_2_4 : List UInt8 := [181, 0, 9, 177]
abbrev dktJ9_init_2_4 : List UInt8 := dkwJ9_init_2_4 ++ []
def dkwJ9_init_2_3 : List UInt8 := [184, 0, 47, 181, 0, 15, 177, 42, 4, 181, 0, 15, 42, 45, 3, 21, 4, 4, 120, 184, 0, 54]
abbrev dktJ9_init_2_3 : List UInt8 := dkwJ9_init_2_3 ++ dktJ9_init_2_4
def dkwJ9_init_2_2 : List UInt8 := [180, 4, 24, 153, 0, 28, 42, 45, 3, 21, 4, 184, 4, 27, 181, 0, 9, 42, 42, 180, 0, 9, 21, 4]
abbrev dktJ9_init_2_2 : List UInt8 := dkwJ9_init_2_2 ++ dktJ9_init_2_3
def dkwJ9_init_2_1 : List UInt8 := [181, 0, 15, 42, 45, 3, 21, 4, 184, 0, 54, 181, 0, 9, 167, 0, 59, 178, 0, 38, 153, 0, 35, 43]
abbrev dktJ9_init_2_1 : List UInt8 := dkwJ9_init_2_1 ++ dktJ9_init_2_2
def dkwJ9_init_2_0 : List UInt8 := [42, 183, 0, 1, 43, 182, 2, 40, 78, 43, 182, 2, 37, 54, 4, 43, 182, 4, 23, 153, 0, 22, 42, 3]
abbrev dktJ9_init_2_0 : List UInt8 := dkwJ9_init_2_0 ++ dktJ9_init_2_1
theorem dksJ9_init_2_0 : cJ9_init_2.data.toList.drop 0 = dktJ9_init_2_0 := by decide +kernel
theorem dksJ9_init_2_1 : cJ9_init_2.data.toList.drop 24 = dktJ9_init_2_1 := dk_seg dksJ9_init_2_0 24 rfl rfl
theorem dksJ9_init_2_2 : cJ9_init_2.data.toList.drop 48 = dktJ9_init_2_2 := dk_seg dksJ9_init_2_1 24 rfl rfl
theorem dksJ9_init_2_3 : cJ9_init_2.data.toList.drop 72 = dktJ9_init_2_3 := dk_seg dksJ9_init_2_2 24 rfl rfl
theorem dksJ9_init_2_4 : cJ9_init_2.data.toList.drop 94 = dktJ9_init_2_4 := dk_seg dksJ9_init_2_3 22 rfl rfl
theorem dJ9_init_2_0 : decode cJ9_init_2 0 = .ok (.aload_n 0, 1) := dk_42 (dk_at dksJ9_init_2_0 0 rfl rfl)
theorem dJ9_init_2_1 : decode cJ9_init_2 1 = .ok (.invokespecial 1, 3) := dk_183 0 1 (dk_at dksJ9_init_2_0 1 rfl rfl)
theorem dJ9_init_2_4 : decode cJ9_init_2 4 = .ok (.aload_n 1, 1) := dk_43 (dk_at dksJ9_init_2_0 4 rfl rfl)
theorem dJ9_init_2_5 : decode cJ9_init_2 5 = .ok (.invokevirtual 552, 3) := dk_182 2 40 (dk_at dksJ9_init_2_0 5 rfl rfl)
theorem dJ9_init_2_8 : decode cJ9_init_2 8 = .ok (.astore_n 3, 1) := dk_78 (dk_at dksJ9_init_2_0 8 rfl rfl)
theorem dJ9_init_2_9 : decode cJ9_init_2 9 = .ok (.aload_n 1, 1) := dk_43 (dk_at dksJ9_init_2_0 9 rfl rfl)
theorem dJ9_init_2_10 : decode cJ9_init_2 10 = .ok (.invokevirtual 549, 3) := dk_182 2 37 (dk_at dksJ9_init_2_0 10 rfl rfl)
theorem dJ9_init_2_13 : decode cJ9_init_2 13 = .ok (.istore 4, 2) := dk_54 4 (dk_at dksJ9_init_2_0 13 rfl rfl)
theorem dJ9_init_2_15 : decode cJ9_init_2 15 = .ok (.aload_n 1, 1) := dk_43 (dk_at dksJ9_init_2_0 15 rfl rfl)
theorem dJ9_init_2_16 : decode cJ9_init_2 16 = .ok (.invokevirtual 1047, 3) := dk_182 4 23 (dk_at dksJ9_init_2_0 16 rfl rfl)
theorem dJ9_init_2_19 : decode cJ9_init_2 19 = .ok (.ifCond .eq 22, 3) := dk_153 0 22 (dk_at dksJ9_init_2_0 19 rfl rfl)
theorem dJ9_init_2_22 : decode cJ9_init_2 22 = .ok (.aload_n 0, 1) := dk_42 (dk_at dksJ9_init_2_0 22 rfl rfl)
theorem dJ9_init_2_23 : decode cJ9_init_2 23 = .ok (.iconst 0, 1) := dk_3 (dk_at dksJ9_init_2_0 23 rfl rfl)
theorem dJ9_init_2_24 : decode cJ9_init_2 24 = .ok (.putfield 15, 3) := dk_181 0 15 (dk_at dksJ9_init_2_1 0 rfl rfl)
theorem dJ9_init_2_27 : decode cJ9_init_2 27 = .ok (.aload_n 0, 1) := dk_42 (dk_at dksJ9_init_2_1 3 rfl rfl)
theorem dJ9_init_2_28 : decode cJ9_init_2 28 = .ok (.aload_n 3, 1) := dk_45 (dk_at dksJ9_init_2_1 4 rfl rfl)
theorem dJ9_init_2_29 : decode cJ9_init_2 29 = .ok (.iconst 0, 1) := dk_3 (dk_at dksJ9_init_2_1 5 rfl rfl)
theorem dJ9_init_2_30 : decode cJ9_init_2 30 = .ok (.iload 4, 2) := dk_21 4 (dk_at dksJ9_init_2_1 6 rfl rfl)
theorem dJ9_init_2_32 : decode cJ9_init_2 32 = .ok (.invokestatic 54, 3) := dk_184 0 54 (dk_at dksJ9_init_2_1 8 rfl rfl)
theorem dJ9_init_2_35 : decode cJ9_init_2 35 = .ok (.putfield 9, 3) := dk_181 0 9 (dk_at dksJ9_init_2_1 11 rfl rfl)
theorem dJ9_init_2_38 : decode cJ9_init_2 38 = .ok (.goto 59, 3) := dk_167 0 59 (dk_at dksJ9_init_2_1 14 rfl rfl)
theorem dJ9_init_2_41 : decode cJ9_init_2 41 = .ok (.getstatic 38, 3) := dk_178 0 38 (dk_at dksJ9_init_2_1 17 rfl rfl)
theorem dJ9_init_2_44 : decode cJ9_init_2 44 = .ok (.ifCond .eq 35, 3) := dk_153 0 35 (dk_at dksJ9_init_2_1 20 rfl rfl)
theorem dJ9_init_2_47 : decode cJ9_init_2 47 = .ok (.aload_n 1, 1) := dk_43 (dk_at dksJ9_init_2_1 23 rfl rfl)
theorem dJ9_init_2_48 : decode cJ9_init_2 48 = .ok (.getfield 1048, 3) := dk_180 4 24 (dk_at dksJ9_init_2_2 0 rfl rfl)
theorem dJ9_init_2_51 : decode cJ9_init_2 51 = .ok (.ifCond .eq 28, 3) := dk_153 0 28 (dk_at dksJ9_init_2_2 3 rfl rfl)
theorem dJ9_init_2_54 : decode cJ9_init_2 54 = .ok (.aload_n 0, 1) := dk_42 (dk_at dksJ9_init_2_2 6 rfl rfl)
theorem dJ9_init_2_55 : decode cJ9_init_2 55 = .ok (.aload_n 3, 1) := dk_45 (dk_at dksJ9_init_2_2 7 rfl rfl)
theorem dJ9_init_2_56 : decode cJ9_init_2 56 = .ok (.iconst 0, 1) := dk_3 (dk_at dksJ9_init_2_2 8 rfl rfl)
theorem dJ9_init_2_57 : decode cJ9_init_2 57 = .ok (.iload 4, 2) := dk_21 4 (dk_at dksJ9_init_2_2 9 rfl rfl)
theorem dJ9_init_2_59 : decode cJ9_init_2 59 = .ok (.invokestatic 1051, 3) := dk_184 4 27 (dk_at dksJ9_init_2_2 11 rfl rfl)
theorem dJ9_init_2_62 : decode cJ9_init_2 62 = .ok (.putfield 9, 3) := dk_181 0 9 (dk_at dksJ9_init_2_2 14 rfl rfl)
theorem dJ9_init_2_65 : decode cJ9_init_2 65 = .ok (.aload_n 0, 1) := dk_42 (dk_at dksJ9_init_2_2 17 rfl rfl)
theorem dJ9_init_2_66 : decode cJ9_init_2 66 = .ok (.aload_n 0, 1) := dk_42 (dk_at dksJ9_init_2_2 18 rfl rfl)
theorem dJ9_init_2_67 : decode cJ9_init_2 67 = .ok (.getfield 9, 3) := dk_180 0 9 (dk_at dksJ9_init_2_2 19 rfl rfl)
theorem dJ9_init_2_70 : decode cJ9_init_2 70 = .ok (.iload 4, 2) := dk_21 4 (dk_at dksJ9_init_2_2 22 rfl rfl)
theorem dJ9_init_2_72 : decode cJ9_init_2 72 = .ok (.invokestatic 47, 3) := dk_184 0 47 (dk_at dksJ9_init_2_3 0 rfl rfl)
theorem dJ9_init_2_75 : decode cJ9_init_2 75 = .ok (.putfield 15, 3) := dk_181 0 15 (dk_at dksJ9_init_2_3 3 rfl rfl)
theorem dJ9_init_2_78 : decode cJ9_init_2 78 = .ok (.return_, 1) := dk_177 (dk_at dksJ9_init_2_3 6 rfl rfl)
theorem dJ9_init_2_79 : decode cJ9_init_2 79 = .ok (.aload_n 0, 1) := dk_42 (dk_at dksJ9_init_2_3 7 rfl rfl)
theorem dJ9_init_2_80 : decode cJ9_init_2 80 = .ok (.iconst 1, 1) := dk_4 (dk_at dksJ9_init_2_3 8 rfl rfl)
theorem dJ9_init_2_81 : decode cJ9_init_2 81 = .ok (.putfield 15, 3) := dk_181 0 15 (dk_at dksJ9_init_2_3 9 rfl rfl)
theorem dJ9_init_2_84 : decode cJ9_init_2 84 = .ok (.aload_n 0, 1) := dk_42 (dk_at dksJ9_init_2_3 12 rfl rfl)
theorem dJ9_init_2_85 : decode cJ9_init_2 85 = .ok (.aload_n 3, 1) := dk_45 (dk_at dksJ9_init_2_3 13 rfl rfl)
theorem dJ9_init_2_86 : decode cJ9_init_2 86 = .ok (.iconst 0, 1) := dk_3 (dk_at dksJ9_init_2_3 14 rfl rfl)
theorem dJ9_init_2_87 : decode cJ9_init_2 87 = .ok (.iload 4, 2) := dk_21 4 (dk_at dksJ9_init_2_3 15 rfl rfl)
theorem dJ9_init_2_89 : decode cJ9_init_2 89 = .ok (.iconst 1, 1) := dk_4 (dk_at dksJ9_init_2_3 17 rfl rfl)
theorem dJ9_init_2_90 : decode cJ9_init_2 90 = .ok (.ishl, 1) := dk_120 (dk_at dksJ9_init_2_3 18 rfl rfl)
theorem dJ9_init_2_91 : decode cJ9_init_2 91 = .ok (.invokestatic 54, 3) := dk_184 0 54 (dk_at dksJ9_init_2_3 19 rfl rfl)
theorem dJ9_init_2_94 : decode cJ9_init_2 94 = .ok (.putfield 9, 3) := dk_181 0 9 (dk_at dksJ9_init_2_4 0 rfl rfl)
theorem dJ9_init_2_97 : decode cJ9_init_2 97 = .ok (.return_, 1) := dk_177 (dk_at dksJ9_init_2_4 3 rfl rfl)
abbrev cJ9_checkIndex : ByteArray := prog_33_method_155_code
def yJ9_checkIndex : MethodName := ⟨RJ9, "checkIndex", "(II)V"⟩
def dkwJ9_checkIndex_0 : List UInt8 := [26, 27, 178, 4, 29, 184, 4, 35, 87, 177]
abbrev dktJ9_checkIndex_0 : List UInt8 := dkwJ9_checkIndex_0 ++ []
theorem dksJ9_checkIndex_0 : cJ9_checkIndex.data.toList.drop 0 = dktJ9_checkIndex_0 := by decide +kernel
theorem dJ9_checkIndex_0 : decode cJ9_checkIndex 0 = .ok (.iload_n 0, 1) := dk_26 (dk_at dksJ9_checkIndex_0 0 rfl rfl)
theorem dJ9_checkIndex_1 : decode cJ9_checkIndex 1 = .ok (.iload_n 1, 1) := dk_27 (dk_at dksJ9_checkIndex_0 1 rfl rfl)
theorem dJ9_checkIndex_2 : decode cJ9_checkIndex 2 = .ok (.getstatic 1053, 3) := dk_178 4 29 (dk_at dksJ9_checkIndex_0 2 rfl rfl)
theorem dJ9_checkIndex_5 : decode cJ9_checkIndex 5 = .ok (.invokestatic 1059, 3) := dk_184 4 35 (dk_at dksJ9_checkIndex_0 5 rfl rfl)
theorem dJ9_checkIndex_8 : decode cJ9_checkIndex 8 = .ok (.pop, 1) := dk_87 (dk_at dksJ9_checkIndex_0 8 rfl rfl)
theorem dJ9_checkIndex_9 : decode cJ9_checkIndex 9 = .ok (.return_, 1) := dk_177 (dk_at dksJ9_checkIndex_0 9 rfl rfl)
theorem q144 : (Jvm.Cond.initialized "java/lang/String") ∈ lw_all := lw_g (lw_at lw_m1 13 rfl) rfl
theorem q355 : (Jvm.Cond.laysStatic "java/lang/String" "COMPACT_STRINGS" "Z") ∈ lw_tbl := lw_at lw_m1 224 rfl
theorem q366 : (Jvm.Cond.fieldLink "java/lang/String" (1048 : Nat) "java/lang/AbstractStringBuilder" "maybeLatin1" "Z") ∈ lw_all := lw_g (lw_at lw_m1 235 rfl) rfl
theorem q832 : (Jvm.Cond.selects "java/lang/String" ({ cls := "java/lang/Object", name := "getClass", desc := "()Ljava/lang/Class;" } : Jvm.MethodName) ({ cls := "java/lang/Object", name := "getClass", desc := "()Ljava/lang/Class;" } : Jvm.MethodName)) ∈ lw_all := lw_g (lw_at lw_m3 221 rfl) rfl
theorem q1467 : (Jvm.Cond.static ({ cls := "java/lang/String", name := "checkBoundsBeginEnd", desc := "(III)V" } : Jvm.MethodName)) ∈ lw_all := lw_g (lw_at lw_m6 136 rfl) rfl
theorem q1468 : (Jvm.Cond.code ({ cls := "java/lang/String", name := "checkBoundsBeginEnd", desc := "(III)V" } : Jvm.MethodName) prog_33_method_158_code (3 : Nat) (Option.none : Option Jvm.ClassFile.FieldType)) ∈ lw_all := lw_g (lw_at lw_m6 137 rfl) rfl
theorem q1469 : (Jvm.Cond.fieldLink "java/lang/String" (1053 : Nat) "jdk/internal/util/Preconditions" "SIOOBE_FORMATTER" "Ljava/util/function/BiFunction;") ∈ lw_all := lw_g (lw_at lw_m6 138 rfl) rfl
theorem q1471 : (Jvm.Cond.methodLink "java/lang/String" (1062 : Nat) ({ cls := "jdk/internal/util/Preconditions", name := "checkFromToIndex", desc := "(IIILjava/util/function/BiFunction;)I" } : Jvm.MethodName)) ∈ lw_all := lw_g (lw_at lw_m6 140 rfl) rfl
theorem q1484 : (Jvm.Cond.instanceMethod ({ cls := "java/lang/String", name := "length", desc := "()I" } : Jvm.MethodName)) ∈ lw_all := lw_g (lw_at lw_m6 153 rfl) rfl
theorem q1485 : (Jvm.Cond.selects "java/lang/String" ({ cls := "java/lang/String", name := "length", desc := "()I" } : Jvm.MethodName) ({ cls := "java/lang/String", name := "length", desc := "()I" } : Jvm.MethodName)) ∈ lw_all := lw_g (lw_at lw_m6 154 rfl) rfl
theorem q1486 : (Jvm.Cond.code ({ cls := "java/lang/String", name := "length", desc := "()I" } : Jvm.MethodName) prog_33_method_54_code (1 : Nat) (Option.some Jvm.ClassFile.FieldType.int)) ∈ lw_all := lw_g (lw_at lw_m6 155 rfl) rfl
theorem q1487 : (Jvm.Cond.methodLink "java/lang/String" (335 : Nat) ({ cls := "java/lang/String", name := "coder", desc := "()B" } : Jvm.MethodName)) ∈ lw_all := lw_g (lw_at lw_m6 156 rfl) rfl
theorem q1488 : (Jvm.Cond.instanceMethod ({ cls := "java/lang/String", name := "coder", desc := "()B" } : Jvm.MethodName)) ∈ lw_all := lw_g (lw_at lw_m6 157 rfl) rfl
theorem q1489 : (Jvm.Cond.selects "java/lang/String" ({ cls := "java/lang/String", name := "coder", desc := "()B" } : Jvm.MethodName) ({ cls := "java/lang/String", name := "coder", desc := "()B" } : Jvm.MethodName)) ∈ lw_all := lw_g (lw_at lw_m6 158 rfl) rfl
theorem q1490 : (Jvm.Cond.code ({ cls := "java/lang/String", name := "coder", desc := "()B" } : Jvm.MethodName) prog_33_method_152_code (1 : Nat) (Option.some Jvm.ClassFile.FieldType.byte)) ∈ lw_all := lw_g (lw_at lw_m6 159 rfl) rfl
theorem q1491 : (Jvm.Cond.fieldLink "java/lang/String" (38 : Nat) "java/lang/String" "COMPACT_STRINGS" "Z") ∈ lw_all := lw_g (lw_at lw_m6 160 rfl) rfl
theorem q1515 : (Jvm.Cond.static ({ cls := "java/lang/String", name := "checkBoundsOffCount", desc := "(III)I" } : Jvm.MethodName)) ∈ lw_all := lw_g (lw_at lw_m6 184 rfl) rfl
theorem q1516 : (Jvm.Cond.code ({ cls := "java/lang/String", name := "checkBoundsOffCount", desc := "(III)I" } : Jvm.MethodName) prog_33_method_157_code (3 : Nat) (Option.some Jvm.ClassFile.FieldType.int)) ∈ lw_all := lw_g (lw_at lw_m6 185 rfl) rfl
theorem q1517 : (Jvm.Cond.methodLink "java/lang/String" (1065 : Nat) ({ cls := "jdk/internal/util/Preconditions", name := "checkFromIndexSize", desc := "(IIILjava/util/function/BiFunction;)I" } : Jvm.MethodName)) ∈ lw_all := lw_g (lw_at lw_m6 186 rfl) rfl
theorem q1521 : (Jvm.Cond.instanceMethod ({ cls := "java/lang/String", name := "getBytes", desc := "([BIB)V" } : Jvm.MethodName)) ∈ lw_all := lw_g (lw_at lw_m6 190 rfl) rfl
theorem q1522 : (Jvm.Cond.selects "java/lang/String" ({ cls := "java/lang/String", name := "getBytes", desc := "([BIB)V" } : Jvm.MethodName) ({ cls := "java/lang/String", name := "getBytes", desc := "([BIB)V" } : Jvm.MethodName)) ∈ lw_all := lw_g (lw_at lw_m6 191 rfl) rfl
theorem q1523 : (Jvm.Cond.code ({ cls := "java/lang/String", name := "getBytes", desc := "([BIB)V" } : Jvm.MethodName) prog_33_method_147_code (4 : Nat) (Option.none : Option Jvm.ClassFile.FieldType)) ∈ lw_all := lw_g (lw_at lw_m6 192 rfl) rfl
theorem q1524 : (Jvm.Cond.methodLink "java/lang/String" (212 : Nat) ({ cls := "java/lang/System", name := "arraycopy", desc := "(Ljava/lang/Object;ILjava/lang/Object;II)V" } : Jvm.MethodName)) ∈ lw_all := lw_g (lw_at lw_m6 193 rfl) rfl
theorem q1525 : (Jvm.Cond.methodLink "java/lang/String" (106 : Nat) ({ cls := "java/lang/StringLatin1", name := "inflate", desc := "([BI[BII)V" } : Jvm.MethodName)) ∈ lw_all := lw_g (lw_at lw_m6 194 rfl) rfl
theorem q1532 : (Jvm.Cond.instantiable "java/lang/String" (4 : Nat)) ∈ lw_all := lw_g (lw_at lw_m6 201 rfl) rfl
theorem q1534 : (Jvm.Cond.instanceMethod ({ cls := "java/lang/String", name := "<init>", desc := "(Ljava/lang/StringBuilder;)V" } : Jvm.MethodName)) ∈ lw_all := lw_g (lw_at lw_m6 203 rfl) rfl
theorem q1535 : (Jvm.Cond.code ({ cls := "java/lang/String", name := "<init>", desc := "(Ljava/lang/StringBuilder;)V" } : Jvm.MethodName) prog_33_method_53_code (2 : Nat) (Option.none : Option Jvm.ClassFile.FieldType)) ∈ lw_all := lw_g (lw_at lw_m6 204 rfl) rfl
theorem q1536 : (Jvm.Cond.methodLink "java/lang/String" (489 : Nat) ({ cls := "java/lang/String", name := "<init>", desc := "(Ljava/lang/AbstractStringBuilder;Ljava/lang/Void;)V" } : Jvm.MethodName)) ∈ lw_all := lw_g (lw_at lw_m6 205 rfl) rfl
theorem q1537 : (Jvm.Cond.instanceMethod ({ cls := "java/lang/String", name := "<init>", desc := "(Ljava/lang/AbstractStringBuilder;Ljava/lang/Void;)V" } : Jvm.MethodName)) ∈ lw_all := lw_g (lw_at lw_m6 206 rfl) rfl
theorem q1538 : (Jvm.Cond.code ({ cls := "java/lang/String", name := "<init>", desc := "(Ljava/lang/AbstractStringBuilder;Ljava/lang/Void;)V" } : Jvm.MethodName) prog_33_method_150_code (5 : Nat) (Option.none : Option Jvm.ClassFile.FieldType)) ∈ lw_all := lw_g (lw_at lw_m6 207 rfl) rfl
theorem q1539 : (Jvm.Cond.methodLink "java/lang/String" (1 : Nat) ({ cls := "java/lang/Object", name := "<init>", desc := "()V" } : Jvm.MethodName)) ∈ lw_all := lw_g (lw_at lw_m6 208 rfl) rfl
theorem q1540 : (Jvm.Cond.methodLink "java/lang/String" (552 : Nat) ({ cls := "java/lang/AbstractStringBuilder", name := "getValue", desc := "()[B" } : Jvm.MethodName)) ∈ lw_all := lw_g (lw_at lw_m6 209 rfl) rfl
theorem q1545 : (Jvm.Cond.methodLink "java/lang/String" (549 : Nat) ({ cls := "java/lang/AbstractStringBuilder", name := "length", desc := "()I" } : Jvm.MethodName)) ∈ lw_all := lw_g (lw_at lw_m6 214 rfl) rfl
theorem q1553 : (Jvm.Cond.methodLink "java/lang/String" (1047 : Nat) ({ cls := "java/lang/AbstractStringBuilder", name := "isLatin1", desc := "()Z" } : Jvm.MethodName)) ∈ lw_all := lw_g (lw_at lw_m6 222 rfl) rfl
theorem q1554 : (Jvm.Cond.methodLink "java/lang/String" (54 : Nat) ({ cls := "java/util/Arrays", name := "copyOfRange", desc := "([BII)[B" } : Jvm.MethodName)) ∈ lw_all := lw_g (lw_at lw_m6 223 rfl) rfl
theorem q1563 : (Jvm.Cond.methodLink "java/lang/String" (1051 : Nat) ({ cls := "java/lang/StringUTF16", name := "compress", desc := "([BII)[B" } : Jvm.MethodName)) ∈ lw_all := lw_g (lw_at lw_m6 232 rfl) rfl
theorem q1573 : (Jvm.Cond.methodLink "java/lang/String" (47 : Nat) ({ cls := "java/lang/StringUTF16", name := "coderFromArrayLen", desc := "([BI)B" } : Jvm.MethodName)) ∈ lw_all := lw_g (lw_at lw_m7 2 rfl) rfl
theorem q1576 : (Jvm.Cond.fieldLink "java/lang/String" (9 : Nat) "java/lang/String" "value" "[B") ∈ lw_all := lw_g (lw_at lw_m7 5 rfl) rfl
theorem q1577 : (Jvm.Cond.fieldLink "java/lang/String" (15 : Nat) "java/lang/String" "coder" "B") ∈ lw_all := lw_g (lw_at lw_m7 6 rfl) rfl
theorem q1578 : (Jvm.Cond.laysFinal "java/lang/String" "java/lang/String" "value" "[B") ∈ lw_all := lw_g (lw_at lw_m7 7 rfl) rfl
theorem q1579 : (Jvm.Cond.soleField "java/lang/String" "value") ∈ lw_all := lw_g (lw_at lw_m7 8 rfl) rfl
theorem q1580 : (Jvm.Cond.laysFinal "java/lang/String" "java/lang/String" "coder" "B") ∈ lw_all := lw_g (lw_at lw_m7 9 rfl) rfl
theorem q1581 : (Jvm.Cond.soleField "java/lang/String" "coder") ∈ lw_all := lw_g (lw_at lw_m7 10 rfl) rfl
theorem q1582 : (Jvm.Cond.lays "java/lang/String" "java/lang/String" "hash" "I") ∈ lw_all := lw_g (lw_at lw_m7 11 rfl) rfl
theorem q1583 : (Jvm.Cond.soleField "java/lang/String" "hash") ∈ lw_all := lw_g (lw_at lw_m7 12 rfl) rfl
theorem q1584 : (Jvm.Cond.lays "java/lang/String" "java/lang/String" "hashIsZero" "Z") ∈ lw_all := lw_g (lw_at lw_m7 13 rfl) rfl
theorem q1585 : (Jvm.Cond.soleField "java/lang/String" "hashIsZero") ∈ lw_all := lw_g (lw_at lw_m7 14 rfl) rfl
theorem q1586 : (Jvm.Cond.superclass "java/lang/String" "java/lang/Object") ∈ lw_all := lw_g (lw_at lw_m7 15 rfl) rfl
theorem q1878 : (Jvm.Cond.static ({ cls := "java/lang/String", name := "checkIndex", desc := "(II)V" } : Jvm.MethodName)) ∈ lw_all := lw_g (lw_at lw_m8 67 rfl) rfl
theorem q1879 : (Jvm.Cond.code ({ cls := "java/lang/String", name := "checkIndex", desc := "(II)V" } : Jvm.MethodName) prog_33_method_155_code (2 : Nat) (Option.none : Option Jvm.ClassFile.FieldType)) ∈ lw_all := lw_g (lw_at lw_m8 68 rfl) rfl
theorem q1880 : (Jvm.Cond.methodLink "java/lang/String" (1059 : Nat) ({ cls := "jdk/internal/util/Preconditions", name := "checkIndex", desc := "(IILjava/util/function/BiFunction;)I" } : Jvm.MethodName)) ∈ lw_all := lw_g (lw_at lw_m8 69 rfl) rfl
theorem q3017 : (Jvm.Cond.castable "java/lang/String" "java/lang/Object") ∈ lw_tbl := lw_at lw_m13 6 rfl
theorem in_J9 : ∀ w ∈ wsJ90, w ∈ lw_all := lw_in wsJ90 [1578, 1580, 1582, 1584] (by decide +kernel) (by decide +kernel)
theorem q131 : (Jvm.Cond.initialized "GameCalculatorLaw") ∈ lw_all := lw_g (lw_at lw_m1 0 rfl) rfl
set_option maxRecDepth 100000
theorem q184 : (Jvm.Cond.classLink "GameCalculatorLaw" (7 : Nat) "GameCalculator") ∈ lw_all := lw_g (lw_at lw_m1 53 rfl) rfl
theorem q186 : (Jvm.Cond.methodLink "GameCalculatorLaw" (9 : Nat) ({ cls := "GameCalculator", name := "<init>", desc := "()V" } : Jvm.MethodName)) ∈ lw_all := lw_g (lw_at lw_m1 55 rfl) rfl
theorem q435 : (Jvm.Cond.methodLink "GameCalculatorLaw" (13 : Nat) ({ cls := "GameCalculator", name := "setNumber", desc := "(III)I" } : Jvm.MethodName)) ∈ lw_all := lw_g (lw_at lw_m2 64 rfl) rfl
theorem q1060 : (Jvm.Cond.methodLink "GameCalculatorLaw" (18 : Nat) ({ cls := "GameCalculator", name := "setNimber", desc := "(II)I" } : Jvm.MethodName)) ∈ lw_all := lw_g (lw_at lw_m4 209 rfl) rfl
theorem q1117 : (Jvm.Cond.methodLink "GameCalculatorLaw" (23 : Nat) ({ cls := "GameCalculator", name := "setUp", desc := "(III)I" } : Jvm.MethodName)) ∈ lw_all := lw_g (lw_at lw_m5 26 rfl) rfl
theorem q1182 : (Jvm.Cond.methodLink "GameCalculatorLaw" (27 : Nat) ({ cls := "GameCalculator", name := "draft", desc := "(II)I" } : Jvm.MethodName)) ∈ lw_all := lw_g (lw_at lw_m5 91 rfl) rfl
theorem q1194 : (Jvm.Cond.methodLink "GameCalculatorLaw" (31 : Nat) ({ cls := "GameCalculator", name := "clearDraft", desc := "()I" } : Jvm.MethodName)) ∈ lw_all := lw_g (lw_at lw_m5 103 rfl) rfl
theorem q1696 : (Jvm.Cond.methodLink "GameCalculatorLaw" (36 : Nat) ({ cls := "GameCalculator", name := "examineDraft", desc := "(I)I" } : Jvm.MethodName)) ∈ lw_all := lw_g (lw_at lw_m7 125 rfl) rfl
theorem q1704 : (Jvm.Cond.methodLink "GameCalculatorLaw" (41 : Nat) ({ cls := "GameCalculator", name := "makeGame", desc := "(I)I" } : Jvm.MethodName)) ∈ lw_all := lw_g (lw_at lw_m7 133 rfl) rfl
theorem q1711 : (Jvm.Cond.methodLink "GameCalculatorLaw" (45 : Nat) ({ cls := "GameCalculator", name := "takeOption", desc := "(IIII)I" } : Jvm.MethodName)) ∈ lw_all := lw_g (lw_at lw_m7 140 rfl) rfl
theorem q1730 : (Jvm.Cond.methodLink "GameCalculatorLaw" (50 : Nat) ({ cls := "GameCalculator", name := "dominoes", desc := "(II)I" } : Jvm.MethodName)) ∈ lw_all := lw_g (lw_at lw_m7 159 rfl) rfl
theorem q1745 : (Jvm.Cond.methodLink "GameCalculatorLaw" (54 : Nat) ({ cls := "GameCalculator", name := "negate", desc := "(II)I" } : Jvm.MethodName)) ∈ lw_all := lw_g (lw_at lw_m7 174 rfl) rfl
theorem q1752 : (Jvm.Cond.methodLink "GameCalculatorLaw" (58 : Nat) ({ cls := "GameCalculator", name := "add", desc := "(III)I" } : Jvm.MethodName)) ∈ lw_all := lw_g (lw_at lw_m7 181 rfl) rfl
theorem q1762 : (Jvm.Cond.methodLink "GameCalculatorLaw" (62 : Nat) ({ cls := "GameCalculator", name := "subtract", desc := "(III)I" } : Jvm.MethodName)) ∈ lw_all := lw_g (lw_at lw_m7 191 rfl) rfl
theorem q1769 : (Jvm.Cond.methodLink "GameCalculatorLaw" (66 : Nat) ({ cls := "GameCalculator", name := "ordinalSum", desc := "(III)I" } : Jvm.MethodName)) ∈ lw_all := lw_g (lw_at lw_m7 198 rfl) rfl
theorem q1786 : (Jvm.Cond.methodLink "GameCalculatorLaw" (70 : Nat) ({ cls := "GameCalculator", name := "multiply", desc := "(III)I" } : Jvm.MethodName)) ∈ lw_all := lw_g (lw_at lw_m7 215 rfl) rfl
theorem q1817 : (Jvm.Cond.methodLink "GameCalculatorLaw" (74 : Nat) ({ cls := "GameCalculator", name := "reciprocal", desc := "(II)I" } : Jvm.MethodName)) ∈ lw_all := lw_g (lw_at lw_m8 6 rfl) rfl
theorem q1830 : (Jvm.Cond.methodLink "GameCalculatorLaw" (78 : Nat) ({ cls := "GameCalculator", name := "simplest", desc := "(III)I" } : Jvm.MethodName)) ∈ lw_all := lw_g (lw_at lw_m8 19 rfl) rfl
theorem q1837 : (Jvm.Cond.methodLink "GameCalculatorLaw" (82 : Nat) ({ cls := "GameCalculator", name := "appendSign", desc := "(I)I" } : Jvm.MethodName)) ∈ lw_all := lw_g (lw_at lw_m8 26 rfl) rfl
theorem q1841 : (Jvm.Cond.methodLink "GameCalculatorLaw" (86 : Nat) ({ cls := "GameCalculator", name := "makeSigns", desc := "(I)I" } : Jvm.MethodName)) ∈ lw_all := lw_g (lw_at lw_m8 30 rfl) rfl
theorem q1852 : (Jvm.Cond.methodLink "GameCalculatorLaw" (90 : Nat) ({ cls := "GameCalculator", name := "sign", desc := "(II)I" } : Jvm.MethodName)) ∈ lw_all := lw_g (lw_at lw_m8 41 rfl) rfl
theorem q1856 : (Jvm.Cond.methodLink "GameCalculatorLaw" (94 : Nat) ({ cls := "GameCalculator", name := "appendCharacter", desc := "(I)I" } : Jvm.MethodName)) ∈ lw_all := lw_g (lw_at lw_m8 45 rfl) rfl
theorem q1881 : (Jvm.Cond.methodLink "GameCalculatorLaw" (98 : Nat) ({ cls := "GameCalculator", name := "clearText", desc := "()I" } : Jvm.MethodName)) ∈ lw_all := lw_g (lw_at lw_m8 70 rfl) rfl
theorem q1905 : (Jvm.Cond.methodLink "GameCalculatorLaw" (102 : Nat) ({ cls := "GameCalculator", name := "evaluate", desc := "(I)I" } : Jvm.MethodName)) ∈ lw_all := lw_g (lw_at lw_m8 94 rfl) rfl
theorem q2140 : (Jvm.Cond.methodLink "GameCalculatorLaw" (106 : Nat) ({ cls := "GameCalculator", name := "compare", desc := "(II)I" } : Jvm.MethodName)) ∈ lw_all := lw_g (lw_at lw_m9 89 rfl) rfl
theorem q2145 : (Jvm.Cond.methodLink "GameCalculatorLaw" (110 : Nat) ({ cls := "GameCalculator", name := "outcome", desc := "(I)I" } : Jvm.MethodName)) ∈ lw_all := lw_g (lw_at lw_m9 94 rfl) rfl
theorem q2149 : (Jvm.Cond.methodLink "GameCalculatorLaw" (114 : Nat) ({ cls := "GameCalculator", name := "winningMove", desc := "(II)I" } : Jvm.MethodName)) ∈ lw_all := lw_g (lw_at lw_m9 98 rfl) rfl
theorem q2154 : (Jvm.Cond.methodLink "GameCalculatorLaw" (118 : Nat) ({ cls := "GameCalculator", name := "birthday", desc := "(I)I" } : Jvm.MethodName)) ∈ lw_all := lw_g (lw_at lw_m9 103 rfl) rfl
theorem q2158 : (Jvm.Cond.methodLink "GameCalculatorLaw" (122 : Nat) ({ cls := "GameCalculator", name := "positions", desc := "(I)I" } : Jvm.MethodName)) ∈ lw_all := lw_g (lw_at lw_m9 107 rfl) rfl
theorem q2162 : (Jvm.Cond.methodLink "GameCalculatorLaw" (126 : Nat) ({ cls := "GameCalculator", name := "options", desc := "(II)I" } : Jvm.MethodName)) ∈ lw_all := lw_g (lw_at lw_m9 111 rfl) rfl
theorem q2171 : (Jvm.Cond.methodLink "GameCalculatorLaw" (130 : Nat) ({ cls := "GameCalculator", name := "number", desc := "(II)I" } : Jvm.MethodName)) ∈ lw_all := lw_g (lw_at lw_m9 120 rfl) rfl
theorem q2181 : (Jvm.Cond.methodLink "GameCalculatorLaw" (134 : Nat) ({ cls := "GameCalculator", name := "nimber", desc := "(I)I" } : Jvm.MethodName)) ∈ lw_all := lw_g (lw_at lw_m9 130 rfl) rfl
theorem q2185 : (Jvm.Cond.methodLink "GameCalculatorLaw" (138 : Nat) ({ cls := "GameCalculator", name := "ups", desc := "(II)I" } : Jvm.MethodName)) ∈ lw_all := lw_g (lw_at lw_m9 134 rfl) rfl
theorem q2189 : (Jvm.Cond.methodLink "GameCalculatorLaw" (142 : Nat) ({ cls := "GameCalculator", name := "isInfinitesimal", desc := "(I)I" } : Jvm.MethodName)) ∈ lw_all := lw_g (lw_at lw_m9 138 rfl) rfl
theorem q2300 : (Jvm.Cond.methodLink "GameCalculatorLaw" (146 : Nat) ({ cls := "GameCalculator", name := "stop", desc := "(III)I" } : Jvm.MethodName)) ∈ lw_all := lw_g (lw_at lw_m10 9 rfl) rfl
theorem q2304 : (Jvm.Cond.methodLink "GameCalculatorLaw" (150 : Nat) ({ cls := "GameCalculator", name := "mean", desc := "(II)I" } : Jvm.MethodName)) ∈ lw_all := lw_g (lw_at lw_m10 13 rfl) rfl
theorem q2308 : (Jvm.Cond.methodLink "GameCalculatorLaw" (154 : Nat) ({ cls := "GameCalculator", name := "temperature", desc := "(II)I" } : Jvm.MethodName)) ∈ lw_all := lw_g (lw_at lw_m10 17 rfl) rfl
theorem q2312 : (Jvm.Cond.methodLink "GameCalculatorLaw" (158 : Nat) ({ cls := "GameCalculator", name := "wall", desc := "(IIIII)I" } : Jvm.MethodName)) ∈ lw_all := lw_g (lw_at lw_m10 21 rfl) rfl
theorem q2316 : (Jvm.Cond.methodLink "GameCalculatorLaw" (163 : Nat) ({ cls := "GameCalculator", name := "undo", desc := "()I" } : Jvm.MethodName)) ∈ lw_all := lw_g (lw_at lw_m10 25 rfl) rfl
theorem q2336 : (Jvm.Cond.classLink "GameCalculatorLaw" (10 : Nat) "GameCalculatorModel") ∈ lw_all := lw_g (lw_at lw_m10 45 rfl) rfl
theorem q2338 : (Jvm.Cond.methodLink "GameCalculatorLaw" (12 : Nat) ({ cls := "GameCalculatorModel", name := "<init>", desc := "()V" } : Jvm.MethodName)) ∈ lw_all := lw_g (lw_at lw_m10 47 rfl) rfl
theorem q2625 : (Jvm.Cond.methodLink "GameCalculatorLaw" (17 : Nat) ({ cls := "GameCalculatorModel", name := "setNumber", desc := "(III)I" } : Jvm.MethodName)) ∈ lw_all := lw_g (lw_at lw_m11 94 rfl) rfl
theorem q2651 : (Jvm.Cond.methodLink "GameCalculatorLaw" (22 : Nat) ({ cls := "GameCalculatorModel", name := "setNimber", desc := "(II)I" } : Jvm.MethodName)) ∈ lw_all := lw_g (lw_at lw_m11 120 rfl) rfl
theorem q2655 : (Jvm.Cond.methodLink "GameCalculatorLaw" (26 : Nat) ({ cls := "GameCalculatorModel", name := "setUp", desc := "(III)I" } : Jvm.MethodName)) ∈ lw_all := lw_g (lw_at lw_m11 124 rfl) rfl
theorem q2659 : (Jvm.Cond.methodLink "GameCalculatorLaw" (30 : Nat) ({ cls := "GameCalculatorModel", name := "draft", desc := "(II)I" } : Jvm.MethodName)) ∈ lw_all := lw_g (lw_at lw_m11 128 rfl) rfl
theorem q2670 : (Jvm.Cond.methodLink "GameCalculatorLaw" (35 : Nat) ({ cls := "GameCalculatorModel", name := "clearDraft", desc := "()I" } : Jvm.MethodName)) ∈ lw_all := lw_g (lw_at lw_m11 139 rfl) rfl
theorem q2674 : (Jvm.Cond.methodLink "GameCalculatorLaw" (40 : Nat) ({ cls := "GameCalculatorModel", name := "examineDraft", desc := "(I)I" } : Jvm.MethodName)) ∈ lw_all := lw_g (lw_at lw_m11 143 rfl) rfl
theorem q2690 : (Jvm.Cond.methodLink "GameCalculatorLaw" (44 : Nat) ({ cls := "GameCalculatorModel", name := "makeGame", desc := "(I)I" } : Jvm.MethodName)) ∈ lw_all := lw_g (lw_at lw_m11 159 rfl) rfl
theorem q2694 : (Jvm.Cond.methodLink "GameCalculatorLaw" (49 : Nat) ({ cls := "GameCalculatorModel", name := "takeOption", desc := "(IIII)I" } : Jvm.MethodName)) ∈ lw_all := lw_g (lw_at lw_m11 163 rfl) rfl
theorem q2705 : (Jvm.Cond.methodLink "GameCalculatorLaw" (53 : Nat) ({ cls := "GameCalculatorModel", name := "dominoes", desc := "(II)I" } : Jvm.MethodName)) ∈ lw_all := lw_g (lw_at lw_m11 174 rfl) rfl
theorem q2709 : (Jvm.Cond.methodLink "GameCalculatorLaw" (57 : Nat) ({ cls := "GameCalculatorModel", name := "negate", desc := "(II)I" } : Jvm.MethodName)) ∈ lw_all := lw_g (lw_at lw_m11 178 rfl) rfl
theorem q2717 : (Jvm.Cond.methodLink "GameCalculatorLaw" (61 : Nat) ({ cls := "GameCalculatorModel", name := "add", desc := "(III)I" } : Jvm.MethodName)) ∈ lw_all := lw_g (lw_at lw_m11 186 rfl) rfl
theorem q2732 : (Jvm.Cond.methodLink "GameCalculatorLaw" (65 : Nat) ({ cls := "GameCalculatorModel", name := "subtract", desc := "(III)I" } : Jvm.MethodName)) ∈ lw_all := lw_g (lw_at lw_m11 201 rfl) rfl
theorem q2736 : (Jvm.Cond.methodLink "GameCalculatorLaw" (69 : Nat) ({ cls := "GameCalculatorModel", name := "ordinalSum", desc := "(III)I" } : Jvm.MethodName)) ∈ lw_all := lw_g (lw_at lw_m11 205 rfl) rfl
theorem q2744 : (Jvm.Cond.methodLink "GameCalculatorLaw" (73 : Nat) ({ cls := "GameCalculatorModel", name := "multiply", desc := "(III)I" } : Jvm.MethodName)) ∈ lw_all := lw_g (lw_at lw_m11 213 rfl) rfl
theorem q2779 : (Jvm.Cond.methodLink "GameCalculatorLaw" (77 : Nat) ({ cls := "GameCalculatorModel", name := "reciprocal", desc := "(II)I" } : Jvm.MethodName)) ∈ lw_all := lw_g (lw_at lw_m12 8 rfl) rfl
theorem q2783 : (Jvm.Cond.methodLink "GameCalculatorLaw" (81 : Nat) ({ cls := "GameCalculatorModel", name := "simplest", desc := "(III)I" } : Jvm.MethodName)) ∈ lw_all := lw_g (lw_at lw_m12 12 rfl) rfl
theorem q2789 : (Jvm.Cond.methodLink "GameCalculatorLaw" (85 : Nat) ({ cls := "GameCalculatorModel", name := "appendSign", desc := "(I)I" } : Jvm.MethodName)) ∈ lw_all := lw_g (lw_at lw_m12 18 rfl) rfl
theorem q2793 : (Jvm.Cond.methodLink "GameCalculatorLaw" (89 : Nat) ({ cls := "GameCalculatorModel", name := "makeSigns", desc := "(I)I" } : Jvm.MethodName)) ∈ lw_all := lw_g (lw_at lw_m12 22 rfl) rfl
theorem q2797 : (Jvm.Cond.methodLink "GameCalculatorLaw" (93 : Nat) ({ cls := "GameCalculatorModel", name := "sign", desc := "(II)I" } : Jvm.MethodName)) ∈ lw_all := lw_g (lw_at lw_m12 26 rfl) rfl
theorem q2801 : (Jvm.Cond.methodLink "GameCalculatorLaw" (97 : Nat) ({ cls := "GameCalculatorModel", name := "appendCharacter", desc := "(I)I" } : Jvm.MethodName)) ∈ lw_all := lw_g (lw_at lw_m12 30 rfl) rfl
theorem q2805 : (Jvm.Cond.methodLink "GameCalculatorLaw" (101 : Nat) ({ cls := "GameCalculatorModel", name := "clearText", desc := "()I" } : Jvm.MethodName)) ∈ lw_all := lw_g (lw_at lw_m12 34 rfl) rfl
theorem q2809 : (Jvm.Cond.methodLink "GameCalculatorLaw" (105 : Nat) ({ cls := "GameCalculatorModel", name := "evaluate", desc := "(I)I" } : Jvm.MethodName)) ∈ lw_all := lw_g (lw_at lw_m12 38 rfl) rfl
theorem q2885 : (Jvm.Cond.methodLink "GameCalculatorLaw" (109 : Nat) ({ cls := "GameCalculatorModel", name := "compare", desc := "(II)I" } : Jvm.MethodName)) ∈ lw_all := lw_g (lw_at lw_m12 114 rfl) rfl
theorem q2893 : (Jvm.Cond.methodLink "GameCalculatorLaw" (113 : Nat) ({ cls := "GameCalculatorModel", name := "outcome", desc := "(I)I" } : Jvm.MethodName)) ∈ lw_all := lw_g (lw_at lw_m12 122 rfl) rfl
theorem q2897 : (Jvm.Cond.methodLink "GameCalculatorLaw" (117 : Nat) ({ cls := "GameCalculatorModel", name := "winningMove", desc := "(II)I" } : Jvm.MethodName)) ∈ lw_all := lw_g (lw_at lw_m12 126 rfl) rfl
theorem q2901 : (Jvm.Cond.methodLink "GameCalculatorLaw" (121 : Nat) ({ cls := "GameCalculatorModel", name := "birthday", desc := "(I)I" } : Jvm.MethodName)) ∈ lw_all := lw_g (lw_at lw_m12 130 rfl) rfl
theorem q2905 : (Jvm.Cond.methodLink "GameCalculatorLaw" (125 : Nat) ({ cls := "GameCalculatorModel", name := "positions", desc := "(I)I" } : Jvm.MethodName)) ∈ lw_all := lw_g (lw_at lw_m12 134 rfl) rfl
theorem q2909 : (Jvm.Cond.methodLink "GameCalculatorLaw" (129 : Nat) ({ cls := "GameCalculatorModel", name := "options", desc := "(II)I" } : Jvm.MethodName)) ∈ lw_all := lw_g (lw_at lw_m12 138 rfl) rfl
theorem q2916 : (Jvm.Cond.methodLink "GameCalculatorLaw" (133 : Nat) ({ cls := "GameCalculatorModel", name := "number", desc := "(II)I" } : Jvm.MethodName)) ∈ lw_all := lw_g (lw_at lw_m12 145 rfl) rfl
theorem q2923 : (Jvm.Cond.methodLink "GameCalculatorLaw" (137 : Nat) ({ cls := "GameCalculatorModel", name := "nimber", desc := "(I)I" } : Jvm.MethodName)) ∈ lw_all := lw_g (lw_at lw_m12 152 rfl) rfl
theorem q2927 : (Jvm.Cond.methodLink "GameCalculatorLaw" (141 : Nat) ({ cls := "GameCalculatorModel", name := "ups", desc := "(II)I" } : Jvm.MethodName)) ∈ lw_all := lw_g (lw_at lw_m12 156 rfl) rfl
theorem q2931 : (Jvm.Cond.methodLink "GameCalculatorLaw" (145 : Nat) ({ cls := "GameCalculatorModel", name := "isInfinitesimal", desc := "(I)I" } : Jvm.MethodName)) ∈ lw_all := lw_g (lw_at lw_m12 160 rfl) rfl
theorem q2955 : (Jvm.Cond.methodLink "GameCalculatorLaw" (149 : Nat) ({ cls := "GameCalculatorModel", name := "stop", desc := "(III)I" } : Jvm.MethodName)) ∈ lw_all := lw_g (lw_at lw_m12 184 rfl) rfl
theorem q2959 : (Jvm.Cond.methodLink "GameCalculatorLaw" (153 : Nat) ({ cls := "GameCalculatorModel", name := "mean", desc := "(II)I" } : Jvm.MethodName)) ∈ lw_all := lw_g (lw_at lw_m12 188 rfl) rfl
theorem q2964 : (Jvm.Cond.methodLink "GameCalculatorLaw" (157 : Nat) ({ cls := "GameCalculatorModel", name := "temperature", desc := "(II)I" } : Jvm.MethodName)) ∈ lw_all := lw_g (lw_at lw_m12 193 rfl) rfl
theorem q2968 : (Jvm.Cond.methodLink "GameCalculatorLaw" (162 : Nat) ({ cls := "GameCalculatorModel", name := "wall", desc := "(IIIII)I" } : Jvm.MethodName)) ∈ lw_all := lw_g (lw_at lw_m12 197 rfl) rfl
theorem q2972 : (Jvm.Cond.methodLink "GameCalculatorLaw" (166 : Nat) ({ cls := "GameCalculatorModel", name := "undo", desc := "()I" } : Jvm.MethodName)) ∈ lw_all := lw_g (lw_at lw_m12 201 rfl) rfl
theorem q1018 : (Jvm.Cond.interfaceMethod "GameCalculator$Maker" "GameCalculator$Maker" "make" "()LGameCalculator$Form;") ∈ lw_tbl := lw_at lw_m4 167 rfl
set_option maxRecDepth 100000
theorem q1019 : (Jvm.Cond.declares ({ cls := "GameCalculator$Maker", name := "make", desc := "()LGameCalculator$Form;" } : Jvm.MethodName)) ∈ lw_tbl := lw_at lw_m4 168 rfl
theorem q1448 : (Jvm.Cond.sameMethod "[B" "java/lang/Object" "clone" "()Ljava/lang/Object;") ∈ lw_all := lw_g (lw_at lw_m6 117 rfl) rfl
set_option maxRecDepth 100000
theorem q1449 : (Jvm.Cond.selects "[B" ({ cls := "[B", name := "clone", desc := "()Ljava/lang/Object;" } : Jvm.MethodName) ({ cls := "java/lang/Object", name := "clone", desc := "()Ljava/lang/Object;" } : Jvm.MethodName)) ∈ lw_all := lw_g (lw_at lw_m6 118 rfl) rfl
theorem q1450 : (Jvm.Cond.castable "[B" "java/lang/Cloneable") ∈ lw_tbl := lw_at lw_m6 119 rfl
theorem q3031 : (Jvm.Cond.castable "[B" "java/lang/Object") ∈ lw_tbl := lw_at lw_m13 20 rfl
theorem q3037 : (Jvm.Cond.castable "[I" "java/lang/Object") ∈ lw_tbl := lw_at lw_m13 26 rfl
set_option maxRecDepth 100000
theorem q570 : (Jvm.Cond.sameMethod "[J" "java/lang/Object" "clone" "()Ljava/lang/Object;") ∈ lw_all := lw_g (lw_at lw_m2 199 rfl) rfl
set_option maxRecDepth 100000
theorem q573 : (Jvm.Cond.selects "[J" ({ cls := "[J", name := "clone", desc := "()Ljava/lang/Object;" } : Jvm.MethodName) ({ cls := "java/lang/Object", name := "clone", desc := "()Ljava/lang/Object;" } : Jvm.MethodName)) ∈ lw_all := lw_g (lw_at lw_m2 202 rfl) rfl
theorem q574 : (Jvm.Cond.castable "[J" "java/lang/Cloneable") ∈ lw_tbl := lw_at lw_m2 203 rfl
theorem q3036 : (Jvm.Cond.castable "[J" "java/lang/Object") ∈ lw_tbl := lw_at lw_m13 25 rfl
theorem q1038 : (Jvm.Cond.sameMethod "[LGameCalculator$Form;" "java/lang/Object" "clone" "()Ljava/lang/Object;") ∈ lw_all := lw_g (lw_at lw_m4 187 rfl) rfl
set_option maxRecDepth 100000
theorem q1039 : (Jvm.Cond.selects "[LGameCalculator$Form;" ({ cls := "[LGameCalculator$Form;", name := "clone", desc := "()Ljava/lang/Object;" } : Jvm.MethodName) ({ cls := "java/lang/Object", name := "clone", desc := "()Ljava/lang/Object;" } : Jvm.MethodName)) ∈ lw_all := lw_g (lw_at lw_m4 188 rfl) rfl
theorem q1040 : (Jvm.Cond.castable "[LGameCalculator$Form;" "java/lang/Cloneable") ∈ lw_tbl := lw_at lw_m4 189 rfl
theorem q3034 : (Jvm.Cond.castable "[LGameCalculator$Form;" "java/lang/Object") ∈ lw_tbl := lw_at lw_m13 23 rfl
theorem q3033 : (Jvm.Cond.castable "[LGameCalculator$Game;" "java/lang/Object") ∈ lw_tbl := lw_at lw_m13 22 rfl
set_option maxRecDepth 100000
theorem q3038 : (Jvm.Cond.castable "[LGameCalculator$Wall;" "java/lang/Object") ∈ lw_tbl := lw_at lw_m13 27 rfl
set_option maxRecDepth 100000
theorem q3028 : (Jvm.Cond.sameMethod "[Ljava/lang/Object;" "java/lang/Object" "getClass" "()Ljava/lang/Class;") ∈ lw_all := lw_g (lw_at lw_m13 17 rfl) rfl
set_option maxRecDepth 100000
theorem q3029 : (Jvm.Cond.selects "[Ljava/lang/Object;" ({ cls := "java/lang/Object", name := "getClass", desc := "()Ljava/lang/Class;" } : Jvm.MethodName) ({ cls := "java/lang/Object", name := "getClass", desc := "()Ljava/lang/Class;" } : Jvm.MethodName)) ∈ lw_all := lw_g (lw_at lw_m13 18 rfl) rfl
theorem q3035 : (Jvm.Cond.castable "[Ljava/lang/Object;" "java/lang/Object") ∈ lw_tbl := lw_at lw_m13 24 rfl
theorem q3039 : (Jvm.Cond.castable "[Z" "java/lang/Object") ∈ lw_tbl := lw_at lw_m13 28 rfl
set_option maxRecDepth 100000
theorem q3032 : (Jvm.Cond.castable "[[LGameCalculator$Game;" "java/lang/Object") ∈ lw_tbl := lw_at lw_m13 21 rfl
set_option maxRecDepth 100000
theorem q161 : (Jvm.Cond.initialized "java/lang/Number") ∈ lw_all := lw_g (lw_at lw_m1 30 rfl) rfl
set_option maxRecDepth 100000
theorem q154 : (Jvm.Cond.initialized "java/lang/System") ∈ lw_all := lw_g (lw_at lw_m1 23 rfl) rfl
set_option maxRecDepth 100000
theorem q580 : (Jvm.Cond.static ({ cls := "java/lang/System", name := "arraycopy", desc := "(Ljava/lang/Object;ILjava/lang/Object;II)V" } : Jvm.MethodName)) ∈ lw_all := lw_g (lw_at lw_m2 209 rfl) rfl
theorem q581 : (Jvm.Cond.native ({ cls := "java/lang/System", name := "arraycopy", desc := "(Ljava/lang/Object;ILjava/lang/Object;II)V" } : Jvm.MethodName)) ∈ lw_all := lw_g (lw_at lw_m2 210 rfl) rfl
theorem q167 : (Jvm.Cond.initialized "java/util/AbstractList$ListItr") ∈ lw_all := lw_g (lw_at lw_m1 36 rfl) rfl
set_option maxRecDepth 100000
theorem q834 : (Jvm.Cond.selects "java/util/AbstractList$ListItr" ({ cls := "java/lang/Object", name := "getClass", desc := "()Ljava/lang/Class;" } : Jvm.MethodName) ({ cls := "java/lang/Object", name := "getClass", desc := "()Ljava/lang/Class;" } : Jvm.MethodName)) ∈ lw_all := lw_g (lw_at lw_m3 223 rfl) rfl
theorem q1320 : (Jvm.Cond.castable "java/util/AbstractList$ListItr" "java/util/Iterator") ∈ lw_tbl := lw_at lw_m5 229 rfl
theorem q1321 : (Jvm.Cond.selects "java/util/AbstractList$ListItr" ({ cls := "java/util/Iterator", name := "hasNext", desc := "()Z" } : Jvm.MethodName) ({ cls := "java/util/AbstractList$Itr", name := "hasNext", desc := "()Z" } : Jvm.MethodName)) ∈ lw_all := lw_g (lw_at lw_m5 230 rfl) rfl
theorem q1322 : (Jvm.Cond.unhidden "java/util/AbstractList$ListItr" "hasNext" "()Z") ∈ lw_tbl := lw_at lw_m5 231 rfl
theorem q1355 : (Jvm.Cond.selects "java/util/AbstractList$ListItr" ({ cls := "java/util/Iterator", name := "next", desc := "()Ljava/lang/Object;" } : Jvm.MethodName) ({ cls := "java/util/AbstractList$Itr", name := "next", desc := "()Ljava/lang/Object;" } : Jvm.MethodName)) ∈ lw_all := lw_g (lw_at lw_m6 24 rfl) rfl
theorem q1356 : (Jvm.Cond.unhidden "java/util/AbstractList$ListItr" "next" "()Ljava/lang/Object;") ∈ lw_tbl := lw_at lw_m6 25 rfl
theorem q1363 : (Jvm.Cond.selects "java/util/AbstractList$ListItr" ({ cls := "java/util/AbstractList$Itr", name := "checkForComodification", desc := "()V" } : Jvm.MethodName) ({ cls := "java/util/AbstractList$Itr", name := "checkForComodification", desc := "()V" } : Jvm.MethodName)) ∈ lw_all := lw_g (lw_at lw_m6 32 rfl) rfl
theorem q1634 : (Jvm.Cond.selects "java/util/AbstractList$ListItr" ({ cls := "java/util/Iterator", name := "remove", desc := "()V" } : Jvm.MethodName) ({ cls := "java/util/AbstractList$Itr", name := "remove", desc := "()V" } : Jvm.MethodName)) ∈ lw_all := lw_g (lw_at lw_m7 63 rfl) rfl
theorem q1635 : (Jvm.Cond.unhidden "java/util/AbstractList$ListItr" "remove" "()V") ∈ lw_tbl := lw_at lw_m7 64 rfl
theorem q3013 : (Jvm.Cond.castable "java/util/AbstractList$ListItr" "java/lang/Object") ∈ lw_tbl := lw_at lw_m13 2 rfl
theorem q3041 : (Jvm.Cond.fieldLink "java/util/AbstractList$ListItr" (1 : Nat) "java/util/AbstractList$ListItr" "this$0" "Ljava/util/AbstractList;") ∈ lw_all := lw_g (lw_at lw_m13 30 rfl) rfl
theorem q3046 : (Jvm.Cond.fieldLink "java/util/AbstractList$ListItr" (13 : Nat) "java/util/AbstractList$ListItr" "cursor" "I") ∈ lw_all := lw_g (lw_at lw_m13 35 rfl) rfl
theorem q3047 : (Jvm.Cond.sameField "java/util/AbstractList$ListItr" "java/util/AbstractList$Itr" "cursor" "I") ∈ lw_all := lw_g (lw_at lw_m13 36 rfl) rfl
theorem q158 : (Jvm.Cond.initialized "java/util/ImmutableCollections") ∈ lw_all := lw_g (lw_at lw_m1 27 rfl) rfl
set_option maxRecDepth 100000
theorem q742 : (Jvm.Cond.laysStatic "java/util/ImmutableCollections" "EMPTY_LIST" "Ljava/util/ImmutableCollections$ListN;") ∈ lw_tbl := lw_at lw_m3 131 rfl
theorem q1318 : (Jvm.Cond.interfaceMethod "java/util/Iterator" "java/util/Iterator" "hasNext" "()Z") ∈ lw_tbl := lw_at lw_m5 227 rfl
set_option maxRecDepth 100000
theorem q1319 : (Jvm.Cond.declares ({ cls := "java/util/Iterator", name := "hasNext", desc := "()Z" } : Jvm.MethodName)) ∈ lw_tbl := lw_at lw_m5 228 rfl
theorem q1353 : (Jvm.Cond.interfaceMethod "java/util/Iterator" "java/util/Iterator" "next" "()Ljava/lang/Object;") ∈ lw_tbl := lw_at lw_m6 22 rfl
theorem q1354 : (Jvm.Cond.declares ({ cls := "java/util/Iterator", name := "next", desc := "()Ljava/lang/Object;" } : Jvm.MethodName)) ∈ lw_tbl := lw_at lw_m6 23 rfl
theorem q1632 : (Jvm.Cond.interfaceMethod "java/util/Iterator" "java/util/Iterator" "remove" "()V") ∈ lw_tbl := lw_at lw_m7 61 rfl
theorem q1633 : (Jvm.Cond.declares ({ cls := "java/util/Iterator", name := "remove", desc := "()V" } : Jvm.MethodName)) ∈ lw_tbl := lw_at lw_m7 62 rfl
theorem q275 : (Jvm.Cond.arrayClass Jvm.ClassFile.FieldType.byte) ∈ lw_all := lw_g (lw_at lw_m1 144 rfl) rfl
set_option maxRecDepth 100000
theorem q277 : (Jvm.Cond.arrayOver (Jvm.ClassFile.FieldType.array (Jvm.ClassFile.FieldType.object "GameCalculator$Game"))) ∈ lw_tbl := lw_at lw_m1 146 rfl
theorem q278 : (Jvm.Cond.arrayOver (Jvm.ClassFile.FieldType.object "GameCalculator$Game")) ∈ lw_tbl := lw_at lw_m1 147 rfl
theorem q279 : (Jvm.Cond.arrayClass (Jvm.ClassFile.FieldType.object "GameCalculator$Game")) ∈ lw_all := lw_g (lw_at lw_m1 148 rfl) rfl
theorem q281 : (Jvm.Cond.arrayOver (Jvm.ClassFile.FieldType.object "GameCalculator$Form")) ∈ lw_tbl := lw_at lw_m1 150 rfl
theorem q289 : (Jvm.Cond.arrayOver (Jvm.ClassFile.FieldType.object "java/lang/Object")) ∈ lw_tbl := lw_at lw_m1 158 rfl
theorem q344 : (Jvm.Cond.arrayClass Jvm.ClassFile.FieldType.long) ∈ lw_all := lw_g (lw_at lw_m1 213 rfl) rfl
theorem q401 : (Jvm.Cond.arrayClass Jvm.ClassFile.FieldType.int) ∈ lw_all := lw_g (lw_at lw_m2 30 rfl) rfl
theorem q2219 : (Jvm.Cond.arrayOver (Jvm.ClassFile.FieldType.object "GameCalculator$Wall")) ∈ lw_tbl := lw_at lw_m9 168 rfl
theorem q2624 : (Jvm.Cond.arrayClass Jvm.ClassFile.FieldType.boolean) ∈ lw_all := lw_g (lw_at lw_m11 93 rfl) rfl
