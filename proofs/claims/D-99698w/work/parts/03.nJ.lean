/-! java/util/AbstractCollection -/
set_option maxRecDepth 100000
def RJ0 : String := "java/util/AbstractCollection"
abbrev cJ0_init : ByteArray := prog_36_method_1_code
def yJ0_init : MethodName := ⟨RJ0, "<init>", "()V"⟩
theorem dJ0_init_0 : decode cJ0_init 0 = .ok (.aload_n 0, 1) := by decide +kernel
theorem dJ0_init_1 : decode cJ0_init 1 = .ok (.invokespecial 1, 3) := by decide +kernel
theorem dJ0_init_4 : decode cJ0_init 4 = .ok (.return_, 1) := by decide +kernel
theorem q137 : (Jvm.Cond.initialized "java/util/AbstractCollection") ∈ lw_all := lw_g (lw_at lw_m1 3 rfl) rfl
theorem q191 : (Jvm.Cond.instanceMethod ({ cls := "java/util/AbstractCollection", name := "<init>", desc := "()V" } : Jvm.MethodName)) ∈ lw_all := lw_g (lw_at lw_m1 57 rfl) rfl
theorem q192 : (Jvm.Cond.code ({ cls := "java/util/AbstractCollection", name := "<init>", desc := "()V" } : Jvm.MethodName) prog_36_method_1_code (1 : Nat) (Option.none : Option Jvm.ClassFile.FieldType)) ∈ lw_all := lw_g (lw_at lw_m1 58 rfl) rfl
theorem q193 : (Jvm.Cond.methodLink "java/util/AbstractCollection" (1 : Nat) ({ cls := "java/lang/Object", name := "<init>", desc := "()V" } : Jvm.MethodName)) ∈ lw_all := lw_g (lw_at lw_m1 59 rfl) rfl

/-! java/util/AbstractList -/
set_option maxRecDepth 100000
def RJ1 : String := "java/util/AbstractList"
abbrev cJ1_init : ByteArray := prog_37_method_1_code
def yJ1_init : MethodName := ⟨RJ1, "<init>", "()V"⟩
def dkwJ1_init_0 : List UInt8 := [42, 183, 0, 1, 42, 3, 181, 0, 7, 177]
abbrev dktJ1_init_0 : List UInt8 := dkwJ1_init_0 ++ []
theorem dksJ1_init_0 : cJ1_init.data.toList.drop 0 = dktJ1_init_0 := by decide +kernel
theorem dJ1_init_0 : decode cJ1_init 0 = .ok (.aload_n 0, 1) := dk_42 (dk_at dksJ1_init_0 0 rfl rfl)
theorem dJ1_init_1 : decode cJ1_init 1 = .ok (.invokespecial 1, 3) := dk_183 0 1 (dk_at dksJ1_init_0 1 rfl rfl)
theorem dJ1_init_4 : decode cJ1_init 4 = .ok (.aload_n 0, 1) := dk_42 (dk_at dksJ1_init_0 4 rfl rfl)
theorem dJ1_init_5 : decode cJ1_init 5 = .ok (.iconst 0, 1) := dk_3 (dk_at dksJ1_init_0 5 rfl rfl)
theorem dJ1_init_6 : decode cJ1_init 6 = .ok (.putfield 7, 3) := dk_181 0 7 (dk_at dksJ1_init_0 6 rfl rfl)
theorem dJ1_init_9 : decode cJ1_init 9 = .ok (.return_, 1) := dk_177 (dk_at dksJ1_init_0 9 rfl rfl)
theorem q138 : (Jvm.Cond.initialized "java/util/AbstractList") ∈ lw_all := lw_g (lw_at lw_m1 4 rfl) rfl
theorem q188 : (Jvm.Cond.instanceMethod ({ cls := "java/util/AbstractList", name := "<init>", desc := "()V" } : Jvm.MethodName)) ∈ lw_all := lw_g (lw_at lw_m1 54 rfl) rfl
theorem q189 : (Jvm.Cond.code ({ cls := "java/util/AbstractList", name := "<init>", desc := "()V" } : Jvm.MethodName) prog_37_method_1_code (1 : Nat) (Option.none : Option Jvm.ClassFile.FieldType)) ∈ lw_all := lw_g (lw_at lw_m1 55 rfl) rfl
theorem q190 : (Jvm.Cond.methodLink "java/util/AbstractList" (1 : Nat) ({ cls := "java/util/AbstractCollection", name := "<init>", desc := "()V" } : Jvm.MethodName)) ∈ lw_all := lw_g (lw_at lw_m1 56 rfl) rfl
theorem q198 : (Jvm.Cond.fieldLink "java/util/AbstractList" (7 : Nat) "java/util/AbstractList" "modCount" "I") ∈ lw_all := lw_g (lw_at lw_m1 64 rfl) rfl
theorem q206 : (Jvm.Cond.soleField "java/util/AbstractList" "modCount") ∈ lw_all := lw_g (lw_at lw_m1 72 rfl) rfl

/-! java/lang/StringUTF16 -/
set_option maxRecDepth 100000
def RJ10 : String := "java/lang/StringUTF16"
abbrev cJ10_getChar : ByteArray := prog_31_method_5_code
def yJ10_getChar : MethodName := ⟨RJ10, "getChar", "([BI)C"⟩
def dkwJ10_getChar_2 : List UInt8 := [51, 17, 0, 255, 126, 178, 0, 63, 120, 128, 146, 172]
abbrev dktJ10_getChar_2 : List UInt8 := dkwJ10_getChar_2 ++ []
def dkwJ10_getChar_1 : List UInt8 := [183, 0, 56, 191, 27, 4, 120, 60, 42, 27, 132, 1, 1, 51, 17, 0, 255, 126, 178, 0, 59, 120, 42, 27]
abbrev dktJ10_getChar_1 : List UInt8 := dkwJ10_getChar_1 ++ dktJ10_getChar_2
def dkwJ10_getChar_0 : List UInt8 := [178, 0, 44, 154, 0, 25, 27, 155, 0, 11, 27, 42, 184, 0, 48, 161, 0, 13, 187, 0, 52, 89, 18, 54]
abbrev dktJ10_getChar_0 : List UInt8 := dkwJ10_getChar_0 ++ dktJ10_getChar_1
theorem dksJ10_getChar_0 : cJ10_getChar.data.toList.drop 0 = dktJ10_getChar_0 := by decide +kernel
theorem dksJ10_getChar_1 : cJ10_getChar.data.toList.drop 24 = dktJ10_getChar_1 := dk_seg dksJ10_getChar_0 24 rfl rfl
theorem dksJ10_getChar_2 : cJ10_getChar.data.toList.drop 48 = dktJ10_getChar_2 := dk_seg dksJ10_getChar_1 24 rfl rfl
theorem dJ10_getChar_0 : decode cJ10_getChar 0 = .ok (.getstatic 44, 3) := dk_178 0 44 (dk_at dksJ10_getChar_0 0 rfl rfl)
theorem dJ10_getChar_3 : decode cJ10_getChar 3 = .ok (.ifCond .ne 25, 3) := dk_154 0 25 (dk_at dksJ10_getChar_0 3 rfl rfl)
theorem dJ10_getChar_6 : decode cJ10_getChar 6 = .ok (.iload_n 1, 1) := dk_27 (dk_at dksJ10_getChar_0 6 rfl rfl)
theorem dJ10_getChar_7 : decode cJ10_getChar 7 = .ok (.ifCond .lt 11, 3) := dk_155 0 11 (dk_at dksJ10_getChar_0 7 rfl rfl)
theorem dJ10_getChar_10 : decode cJ10_getChar 10 = .ok (.iload_n 1, 1) := dk_27 (dk_at dksJ10_getChar_0 10 rfl rfl)
theorem dJ10_getChar_11 : decode cJ10_getChar 11 = .ok (.aload_n 0, 1) := dk_42 (dk_at dksJ10_getChar_0 11 rfl rfl)
theorem dJ10_getChar_12 : decode cJ10_getChar 12 = .ok (.invokestatic 48, 3) := dk_184 0 48 (dk_at dksJ10_getChar_0 12 rfl rfl)
theorem dJ10_getChar_15 : decode cJ10_getChar 15 = .ok (.if_icmp .lt 13, 3) := dk_161 0 13 (dk_at dksJ10_getChar_0 15 rfl rfl)
theorem dJ10_getChar_18 : decode cJ10_getChar 18 = .ok (.new 52, 3) := dk_187 0 52 (dk_at dksJ10_getChar_0 18 rfl rfl)
theorem dJ10_getChar_21 : decode cJ10_getChar 21 = .ok (.dup, 1) := dk_89 (dk_at dksJ10_getChar_0 21 rfl rfl)
theorem dJ10_getChar_22 : decode cJ10_getChar 22 = .ok (.ldc 54, 2) := dk_18 54 (dk_at dksJ10_getChar_0 22 rfl rfl)
theorem dJ10_getChar_24 : decode cJ10_getChar 24 = .ok (.invokespecial 56, 3) := dk_183 0 56 (dk_at dksJ10_getChar_1 0 rfl rfl)
theorem dJ10_getChar_27 : decode cJ10_getChar 27 = .ok (.athrow, 1) := dk_191 (dk_at dksJ10_getChar_1 3 rfl rfl)
theorem dJ10_getChar_28 : decode cJ10_getChar 28 = .ok (.iload_n 1, 1) := dk_27 (dk_at dksJ10_getChar_1 4 rfl rfl)
theorem dJ10_getChar_29 : decode cJ10_getChar 29 = .ok (.iconst 1, 1) := dk_4 (dk_at dksJ10_getChar_1 5 rfl rfl)
theorem dJ10_getChar_30 : decode cJ10_getChar 30 = .ok (.ishl, 1) := dk_120 (dk_at dksJ10_getChar_1 6 rfl rfl)
theorem dJ10_getChar_31 : decode cJ10_getChar 31 = .ok (.istore_n 1, 1) := dk_60 (dk_at dksJ10_getChar_1 7 rfl rfl)
theorem dJ10_getChar_32 : decode cJ10_getChar 32 = .ok (.aload_n 0, 1) := dk_42 (dk_at dksJ10_getChar_1 8 rfl rfl)
theorem dJ10_getChar_33 : decode cJ10_getChar 33 = .ok (.iload_n 1, 1) := dk_27 (dk_at dksJ10_getChar_1 9 rfl rfl)
theorem dJ10_getChar_34 : decode cJ10_getChar 34 = .ok (.iinc 1 1, 3) := dk_132 1 1 (dk_at dksJ10_getChar_1 10 rfl rfl)
theorem dJ10_getChar_37 : decode cJ10_getChar 37 = .ok (.baload, 1) := dk_51 (dk_at dksJ10_getChar_1 13 rfl rfl)
theorem dJ10_getChar_38 : decode cJ10_getChar 38 = .ok (.sipush 255, 3) := dk_17 0 255 (dk_at dksJ10_getChar_1 14 rfl rfl)
theorem dJ10_getChar_41 : decode cJ10_getChar 41 = .ok (.iand, 1) := dk_126 (dk_at dksJ10_getChar_1 17 rfl rfl)
theorem dJ10_getChar_42 : decode cJ10_getChar 42 = .ok (.getstatic 59, 3) := dk_178 0 59 (dk_at dksJ10_getChar_1 18 rfl rfl)
theorem dJ10_getChar_45 : decode cJ10_getChar 45 = .ok (.ishl, 1) := dk_120 (dk_at dksJ10_getChar_1 21 rfl rfl)
theorem dJ10_getChar_46 : decode cJ10_getChar 46 = .ok (.aload_n 0, 1) := dk_42 (dk_at dksJ10_getChar_1 22 rfl rfl)
theorem dJ10_getChar_47 : decode cJ10_getChar 47 = .ok (.iload_n 1, 1) := dk_27 (dk_at dksJ10_getChar_1 23 rfl rfl)
theorem dJ10_getChar_48 : decode cJ10_getChar 48 = .ok (.baload, 1) := dk_51 (dk_at dksJ10_getChar_2 0 rfl rfl)
theorem dJ10_getChar_49 : decode cJ10_getChar 49 = .ok (.sipush 255, 3) := dk_17 0 255 (dk_at dksJ10_getChar_2 1 rfl rfl)
theorem dJ10_getChar_52 : decode cJ10_getChar 52 = .ok (.iand, 1) := dk_126 (dk_at dksJ10_getChar_2 4 rfl rfl)
theorem dJ10_getChar_53 : decode cJ10_getChar 53 = .ok (.getstatic 63, 3) := dk_178 0 63 (dk_at dksJ10_getChar_2 5 rfl rfl)
theorem dJ10_getChar_56 : decode cJ10_getChar 56 = .ok (.ishl, 1) := dk_120 (dk_at dksJ10_getChar_2 8 rfl rfl)
theorem dJ10_getChar_57 : decode cJ10_getChar 57 = .ok (.ior, 1) := dk_128 (dk_at dksJ10_getChar_2 9 rfl rfl)
theorem dJ10_getChar_58 : decode cJ10_getChar 58 = .ok (.i2c, 1) := dk_146 (dk_at dksJ10_getChar_2 10 rfl rfl)
theorem dJ10_getChar_59 : decode cJ10_getChar 59 = .ok (.ireturn, 1) := dk_172 (dk_at dksJ10_getChar_2 11 rfl rfl)
abbrev cJ10_length : ByteArray := prog_31_method_6_code
def yJ10_length : MethodName := ⟨RJ10, "length", "([B)I"⟩
def dkwJ10_length_0 : List UInt8 := [42, 190, 4, 122, 172]
abbrev dktJ10_length_0 : List UInt8 := dkwJ10_length_0 ++ []
theorem dksJ10_length_0 : cJ10_length.data.toList.drop 0 = dktJ10_length_0 := by decide +kernel
theorem dJ10_length_0 : decode cJ10_length 0 = .ok (.aload_n 0, 1) := dk_42 (dk_at dksJ10_length_0 0 rfl rfl)
theorem dJ10_length_1 : decode cJ10_length 1 = .ok (.arraylength, 1) := dk_190 (dk_at dksJ10_length_0 1 rfl rfl)
theorem dJ10_length_2 : decode cJ10_length 2 = .ok (.iconst 1, 1) := dk_4 (dk_at dksJ10_length_0 2 rfl rfl)
theorem dJ10_length_3 : decode cJ10_length 3 = .ok (.ishr, 1) := dk_122 (dk_at dksJ10_length_0 3 rfl rfl)
theorem dJ10_length_4 : decode cJ10_length 4 = .ok (.ireturn, 1) := dk_172 (dk_at dksJ10_length_0 4 rfl rfl)
abbrev cJ10_indexOf : ByteArray := prog_31_method_40_code
def yJ10_indexOf : MethodName := ⟨RJ10, "indexOf", "([BIII)I"⟩
def dkwJ10_indexOf_1 : List UInt8 := [18, 227, 162, 0, 11, 42, 27, 28, 29, 184, 0, 228, 172, 42, 27, 28, 29, 184, 0, 232, 172]
abbrev dktJ10_indexOf_1 : List UInt8 := dkwJ10_indexOf_1 ++ []
def dkwJ10_indexOf_0 : List UInt8 := [28, 3, 184, 0, 224, 61, 29, 42, 190, 4, 122, 184, 0, 183, 62, 28, 29, 161, 0, 5, 2, 172, 27]
abbrev dktJ10_indexOf_0 : List UInt8 := dkwJ10_indexOf_0 ++ dktJ10_indexOf_1
theorem dksJ10_indexOf_0 : cJ10_indexOf.data.toList.drop 0 = dktJ10_indexOf_0 := by decide +kernel
theorem dksJ10_indexOf_1 : cJ10_indexOf.data.toList.drop 23 = dktJ10_indexOf_1 := dk_seg dksJ10_indexOf_0 23 rfl rfl
theorem dJ10_indexOf_0 : decode cJ10_indexOf 0 = .ok (.iload_n 2, 1) := dk_28 (dk_at dksJ10_indexOf_0 0 rfl rfl)
theorem dJ10_indexOf_1 : decode cJ10_indexOf 1 = .ok (.iconst 0, 1) := dk_3 (dk_at dksJ10_indexOf_0 1 rfl rfl)
theorem dJ10_indexOf_2 : decode cJ10_indexOf 2 = .ok (.invokestatic 224, 3) := dk_184 0 224 (dk_at dksJ10_indexOf_0 2 rfl rfl)
theorem dJ10_indexOf_5 : decode cJ10_indexOf 5 = .ok (.istore_n 2, 1) := dk_61 (dk_at dksJ10_indexOf_0 5 rfl rfl)
theorem dJ10_indexOf_6 : decode cJ10_indexOf 6 = .ok (.iload_n 3, 1) := dk_29 (dk_at dksJ10_indexOf_0 6 rfl rfl)
theorem dJ10_indexOf_7 : decode cJ10_indexOf 7 = .ok (.aload_n 0, 1) := dk_42 (dk_at dksJ10_indexOf_0 7 rfl rfl)
theorem dJ10_indexOf_8 : decode cJ10_indexOf 8 = .ok (.arraylength, 1) := dk_190 (dk_at dksJ10_indexOf_0 8 rfl rfl)
theorem dJ10_indexOf_9 : decode cJ10_indexOf 9 = .ok (.iconst 1, 1) := dk_4 (dk_at dksJ10_indexOf_0 9 rfl rfl)
theorem dJ10_indexOf_10 : decode cJ10_indexOf 10 = .ok (.ishr, 1) := dk_122 (dk_at dksJ10_indexOf_0 10 rfl rfl)
theorem dJ10_indexOf_11 : decode cJ10_indexOf 11 = .ok (.invokestatic 183, 3) := dk_184 0 183 (dk_at dksJ10_indexOf_0 11 rfl rfl)
theorem dJ10_indexOf_14 : decode cJ10_indexOf 14 = .ok (.istore_n 3, 1) := dk_62 (dk_at dksJ10_indexOf_0 14 rfl rfl)
theorem dJ10_indexOf_15 : decode cJ10_indexOf 15 = .ok (.iload_n 2, 1) := dk_28 (dk_at dksJ10_indexOf_0 15 rfl rfl)
theorem dJ10_indexOf_16 : decode cJ10_indexOf 16 = .ok (.iload_n 3, 1) := dk_29 (dk_at dksJ10_indexOf_0 16 rfl rfl)
theorem dJ10_indexOf_17 : decode cJ10_indexOf 17 = .ok (.if_icmp .lt 5, 3) := dk_161 0 5 (dk_at dksJ10_indexOf_0 17 rfl rfl)
theorem dJ10_indexOf_20 : decode cJ10_indexOf 20 = .ok (.iconst (-1), 1) := dk_2 (dk_at dksJ10_indexOf_0 20 rfl rfl)
theorem dJ10_indexOf_21 : decode cJ10_indexOf 21 = .ok (.ireturn, 1) := dk_172 (dk_at dksJ10_indexOf_0 21 rfl rfl)
theorem dJ10_indexOf_22 : decode cJ10_indexOf 22 = .ok (.iload_n 1, 1) := dk_27 (dk_at dksJ10_indexOf_0 22 rfl rfl)
theorem dJ10_indexOf_23 : decode cJ10_indexOf 23 = .ok (.ldc 227, 2) := dk_18 227 (dk_at dksJ10_indexOf_1 0 rfl rfl)
theorem dJ10_indexOf_25 : decode cJ10_indexOf 25 = .ok (.if_icmp .ge 11, 3) := dk_162 0 11 (dk_at dksJ10_indexOf_1 2 rfl rfl)
theorem dJ10_indexOf_28 : decode cJ10_indexOf 28 = .ok (.aload_n 0, 1) := dk_42 (dk_at dksJ10_indexOf_1 5 rfl rfl)
theorem dJ10_indexOf_29 : decode cJ10_indexOf 29 = .ok (.iload_n 1, 1) := dk_27 (dk_at dksJ10_indexOf_1 6 rfl rfl)
theorem dJ10_indexOf_30 : decode cJ10_indexOf 30 = .ok (.iload_n 2, 1) := dk_28 (dk_at dksJ10_indexOf_1 7 rfl rfl)
theorem dJ10_indexOf_31 : decode cJ10_indexOf 31 = .ok (.iload_n 3, 1) := dk_29 (dk_at dksJ10_indexOf_1 8 rfl rfl)
theorem dJ10_indexOf_32 : decode cJ10_indexOf 32 = .ok (.invokestatic 228, 3) := dk_184 0 228 (dk_at dksJ10_indexOf_1 9 rfl rfl)
theorem dJ10_indexOf_35 : decode cJ10_indexOf 35 = .ok (.ireturn, 1) := dk_172 (dk_at dksJ10_indexOf_1 12 rfl rfl)
theorem dJ10_indexOf_36 : decode cJ10_indexOf 36 = .ok (.aload_n 0, 1) := dk_42 (dk_at dksJ10_indexOf_1 13 rfl rfl)
theorem dJ10_indexOf_37 : decode cJ10_indexOf 37 = .ok (.iload_n 1, 1) := dk_27 (dk_at dksJ10_indexOf_1 14 rfl rfl)
theorem dJ10_indexOf_38 : decode cJ10_indexOf 38 = .ok (.iload_n 2, 1) := dk_28 (dk_at dksJ10_indexOf_1 15 rfl rfl)
theorem dJ10_indexOf_39 : decode cJ10_indexOf 39 = .ok (.iload_n 3, 1) := dk_29 (dk_at dksJ10_indexOf_1 16 rfl rfl)
theorem dJ10_indexOf_40 : decode cJ10_indexOf 40 = .ok (.invokestatic 232, 3) := dk_184 0 232 (dk_at dksJ10_indexOf_1 17 rfl rfl)
theorem dJ10_indexOf_43 : decode cJ10_indexOf 43 = .ok (.ireturn, 1) := dk_172 (dk_at dksJ10_indexOf_1 20 rfl rfl)
abbrev cJ10_indexOfChar : ByteArray := prog_31_method_47_code
def yJ10_indexOfChar : MethodName := ⟨RJ10, "indexOfChar", "([BIII)I"⟩
def dkwJ10_indexOfChar_0 : List UInt8 := [28, 29, 42, 184, 0, 96, 42, 27, 28, 29, 184, 0, 244, 172]
abbrev dktJ10_indexOfChar_0 : List UInt8 := dkwJ10_indexOfChar_0 ++ []
theorem dksJ10_indexOfChar_0 : cJ10_indexOfChar.data.toList.drop 0 = dktJ10_indexOfChar_0 := by decide +kernel
theorem dJ10_indexOfChar_0 : decode cJ10_indexOfChar 0 = .ok (.iload_n 2, 1) := dk_28 (dk_at dksJ10_indexOfChar_0 0 rfl rfl)
theorem dJ10_indexOfChar_1 : decode cJ10_indexOfChar 1 = .ok (.iload_n 3, 1) := dk_29 (dk_at dksJ10_indexOfChar_0 1 rfl rfl)
theorem dJ10_indexOfChar_2 : decode cJ10_indexOfChar 2 = .ok (.aload_n 0, 1) := dk_42 (dk_at dksJ10_indexOfChar_0 2 rfl rfl)
theorem dJ10_indexOfChar_3 : decode cJ10_indexOfChar 3 = .ok (.invokestatic 96, 3) := dk_184 0 96 (dk_at dksJ10_indexOfChar_0 3 rfl rfl)
theorem dJ10_indexOfChar_6 : decode cJ10_indexOfChar 6 = .ok (.aload_n 0, 1) := dk_42 (dk_at dksJ10_indexOfChar_0 6 rfl rfl)
theorem dJ10_indexOfChar_7 : decode cJ10_indexOfChar 7 = .ok (.iload_n 1, 1) := dk_27 (dk_at dksJ10_indexOfChar_0 7 rfl rfl)
theorem dJ10_indexOfChar_8 : decode cJ10_indexOfChar 8 = .ok (.iload_n 2, 1) := dk_28 (dk_at dksJ10_indexOfChar_0 8 rfl rfl)
theorem dJ10_indexOfChar_9 : decode cJ10_indexOfChar 9 = .ok (.iload_n 3, 1) := dk_29 (dk_at dksJ10_indexOfChar_0 9 rfl rfl)
theorem dJ10_indexOfChar_10 : decode cJ10_indexOfChar 10 = .ok (.invokestatic 244, 3) := dk_184 0 244 (dk_at dksJ10_indexOfChar_0 10 rfl rfl)
theorem dJ10_indexOfChar_13 : decode cJ10_indexOfChar 13 = .ok (.ireturn, 1) := dk_172 (dk_at dksJ10_indexOfChar_0 13 rfl rfl)
abbrev cJ10_checkBoundsBeginEnd : ByteArray := prog_31_method_93_code
def yJ10_checkBoundsBeginEnd : MethodName := ⟨RJ10, "checkBoundsBeginEnd", "(II[B)V"⟩
def dkwJ10_checkBoundsBeginEnd_0 : List UInt8 := [26, 27, 44, 184, 0, 48, 184, 0, 241, 177]
abbrev dktJ10_checkBoundsBeginEnd_0 : List UInt8 := dkwJ10_checkBoundsBeginEnd_0 ++ []
theorem dksJ10_checkBoundsBeginEnd_0 : cJ10_checkBoundsBeginEnd.data.toList.drop 0 = dktJ10_checkBoundsBeginEnd_0 := by decide +kernel
theorem dJ10_checkBoundsBeginEnd_0 : decode cJ10_checkBoundsBeginEnd 0 = .ok (.iload_n 0, 1) := dk_26 (dk_at dksJ10_checkBoundsBeginEnd_0 0 rfl rfl)
theorem dJ10_checkBoundsBeginEnd_1 : decode cJ10_checkBoundsBeginEnd 1 = .ok (.iload_n 1, 1) := dk_27 (dk_at dksJ10_checkBoundsBeginEnd_0 1 rfl rfl)
theorem dJ10_checkBoundsBeginEnd_2 : decode cJ10_checkBoundsBeginEnd 2 = .ok (.aload_n 2, 1) := dk_44 (dk_at dksJ10_checkBoundsBeginEnd_0 2 rfl rfl)
theorem dJ10_checkBoundsBeginEnd_3 : decode cJ10_checkBoundsBeginEnd 3 = .ok (.invokestatic 48, 3) := dk_184 0 48 (dk_at dksJ10_checkBoundsBeginEnd_0 3 rfl rfl)
theorem dJ10_checkBoundsBeginEnd_6 : decode cJ10_checkBoundsBeginEnd 6 = .ok (.invokestatic 241, 3) := dk_184 0 241 (dk_at dksJ10_checkBoundsBeginEnd_0 6 rfl rfl)
theorem dJ10_checkBoundsBeginEnd_9 : decode cJ10_checkBoundsBeginEnd 9 = .ok (.return_, 1) := dk_177 (dk_at dksJ10_checkBoundsBeginEnd_0 9 rfl rfl)
abbrev cJ10_indexOfCharUnsafe : ByteArray := prog_31_method_48_code
def yJ10_indexOfCharUnsafe : MethodName := ⟨RJ10, "indexOfCharUnsafe", "([BIII)I"⟩
def dkwJ10_indexOfCharUnsafe_1 : List UInt8 := [132, 4, 1, 167, 255, 234, 2, 172]
abbrev dktJ10_indexOfCharUnsafe_1 : List UInt8 := dkwJ10_indexOfCharUnsafe_1 ++ []
def dkwJ10_indexOfCharUnsafe_0 : List UInt8 := [28, 54, 4, 21, 4, 29, 162, 0, 22, 42, 21, 4, 184, 0, 71, 27, 160, 0, 6, 21, 4, 172]
abbrev dktJ10_indexOfCharUnsafe_0 : List UInt8 := dkwJ10_indexOfCharUnsafe_0 ++ dktJ10_indexOfCharUnsafe_1
theorem dksJ10_indexOfCharUnsafe_0 : cJ10_indexOfCharUnsafe.data.toList.drop 0 = dktJ10_indexOfCharUnsafe_0 := by decide +kernel
theorem dksJ10_indexOfCharUnsafe_1 : cJ10_indexOfCharUnsafe.data.toList.drop 22 = dktJ10_indexOfCharUnsafe_1 := dk_seg dksJ10_indexOfCharUnsafe_0 22 rfl rfl
theorem dJ10_indexOfCharUnsafe_0 : decode cJ10_indexOfCharUnsafe 0 = .ok (.iload_n 2, 1) := dk_28 (dk_at dksJ10_indexOfCharUnsafe_0 0 rfl rfl)
theorem dJ10_indexOfCharUnsafe_1 : decode cJ10_indexOfCharUnsafe 1 = .ok (.istore 4, 2) := dk_54 4 (dk_at dksJ10_indexOfCharUnsafe_0 1 rfl rfl)
theorem dJ10_indexOfCharUnsafe_3 : decode cJ10_indexOfCharUnsafe 3 = .ok (.iload 4, 2) := dk_21 4 (dk_at dksJ10_indexOfCharUnsafe_0 3 rfl rfl)
theorem dJ10_indexOfCharUnsafe_5 : decode cJ10_indexOfCharUnsafe 5 = .ok (.iload_n 3, 1) := dk_29 (dk_at dksJ10_indexOfCharUnsafe_0 5 rfl rfl)
theorem dJ10_indexOfCharUnsafe_6 : decode cJ10_indexOfCharUnsafe 6 = .ok (.if_icmp .ge 22, 3) := dk_162 0 22 (dk_at dksJ10_indexOfCharUnsafe_0 6 rfl rfl)
theorem dJ10_indexOfCharUnsafe_9 : decode cJ10_indexOfCharUnsafe 9 = .ok (.aload_n 0, 1) := dk_42 (dk_at dksJ10_indexOfCharUnsafe_0 9 rfl rfl)
theorem dJ10_indexOfCharUnsafe_10 : decode cJ10_indexOfCharUnsafe 10 = .ok (.iload 4, 2) := dk_21 4 (dk_at dksJ10_indexOfCharUnsafe_0 10 rfl rfl)
theorem dJ10_indexOfCharUnsafe_12 : decode cJ10_indexOfCharUnsafe 12 = .ok (.invokestatic 71, 3) := dk_184 0 71 (dk_at dksJ10_indexOfCharUnsafe_0 12 rfl rfl)
theorem dJ10_indexOfCharUnsafe_15 : decode cJ10_indexOfCharUnsafe 15 = .ok (.iload_n 1, 1) := dk_27 (dk_at dksJ10_indexOfCharUnsafe_0 15 rfl rfl)
theorem dJ10_indexOfCharUnsafe_16 : decode cJ10_indexOfCharUnsafe 16 = .ok (.if_icmp .ne 6, 3) := dk_160 0 6 (dk_at dksJ10_indexOfCharUnsafe_0 16 rfl rfl)
theorem dJ10_indexOfCharUnsafe_19 : decode cJ10_indexOfCharUnsafe 19 = .ok (.iload 4, 2) := dk_21 4 (dk_at dksJ10_indexOfCharUnsafe_0 19 rfl rfl)
theorem dJ10_indexOfCharUnsafe_21 : decode cJ10_indexOfCharUnsafe 21 = .ok (.ireturn, 1) := dk_172 (dk_at dksJ10_indexOfCharUnsafe_0 21 rfl rfl)
theorem dJ10_indexOfCharUnsafe_22 : decode cJ10_indexOfCharUnsafe 22 = .ok (.iinc 4 1, 3) := dk_132 4 1 (dk_at dksJ10_indexOfCharUnsafe_1 0 rfl rfl)
theorem dJ10_indexOfCharUnsafe_25 : decode cJ10_indexOfCharUnsafe 25 = .ok (.goto (-22), 3) := dk_167 255 234 (dk_at dksJ10_indexOfCharUnsafe_1 3 rfl rfl)
theorem dJ10_indexOfCharUnsafe_28 : decode cJ10_indexOfCharUnsafe 28 = .ok (.iconst (-1), 1) := dk_2 (dk_at dksJ10_indexOfCharUnsafe_1 6 rfl rfl)
theorem dJ10_indexOfCharUnsafe_29 : decode cJ10_indexOfCharUnsafe 29 = .ok (.ireturn, 1) := dk_172 (dk_at dksJ10_indexOfCharUnsafe_1 7 rfl rfl)
abbrev cJ10_indexOfSupplementary : ByteArray := prog_31_method_49_code
def yJ10_indexOfSupplementary : MethodName := ⟨RJ10, "indexOfSupplementary", "([BIII)I"⟩
def dkwJ10_indexOfSupplementary_3 : List UInt8 := [167, 255, 218, 2, 172]
abbrev dktJ10_indexOfSupplementary_3 : List UInt8 := dkwJ10_indexOfSupplementary_3 ++ []
def dkwJ10_indexOfSupplementary_2 : List UInt8 := [160, 0, 19, 42, 21, 6, 4, 96, 184, 0, 71, 21, 5, 160, 0, 6, 21, 6, 172, 132, 6, 1]
abbrev dktJ10_indexOfSupplementary_2 : List UInt8 := dkwJ10_indexOfSupplementary_2 ++ dktJ10_indexOfSupplementary_3
def dkwJ10_indexOfSupplementary_1 : List UInt8 := [184, 0, 96, 28, 54, 6, 21, 6, 29, 4, 100, 162, 0, 36, 42, 21, 6, 184, 0, 71, 21, 4]
abbrev dktJ10_indexOfSupplementary_1 : List UInt8 := dkwJ10_indexOfSupplementary_1 ++ dktJ10_indexOfSupplementary_2
def dkwJ10_indexOfSupplementary_0 : List UInt8 := [27, 184, 0, 164, 153, 0, 65, 27, 184, 0, 157, 54, 4, 27, 184, 0, 161, 54, 5, 28, 29, 42]
abbrev dktJ10_indexOfSupplementary_0 : List UInt8 := dkwJ10_indexOfSupplementary_0 ++ dktJ10_indexOfSupplementary_1
theorem dksJ10_indexOfSupplementary_0 : cJ10_indexOfSupplementary.data.toList.drop 0 = dktJ10_indexOfSupplementary_0 := by decide +kernel
theorem dksJ10_indexOfSupplementary_1 : cJ10_indexOfSupplementary.data.toList.drop 22 = dktJ10_indexOfSupplementary_1 := dk_seg dksJ10_indexOfSupplementary_0 22 rfl rfl
theorem dksJ10_indexOfSupplementary_2 : cJ10_indexOfSupplementary.data.toList.drop 44 = dktJ10_indexOfSupplementary_2 := dk_seg dksJ10_indexOfSupplementary_1 22 rfl rfl
theorem dksJ10_indexOfSupplementary_3 : cJ10_indexOfSupplementary.data.toList.drop 66 = dktJ10_indexOfSupplementary_3 := dk_seg dksJ10_indexOfSupplementary_2 22 rfl rfl
theorem dJ10_indexOfSupplementary_0 : decode cJ10_indexOfSupplementary 0 = .ok (.iload_n 1, 1) := dk_27 (dk_at dksJ10_indexOfSupplementary_0 0 rfl rfl)
theorem dJ10_indexOfSupplementary_1 : decode cJ10_indexOfSupplementary 1 = .ok (.invokestatic 164, 3) := dk_184 0 164 (dk_at dksJ10_indexOfSupplementary_0 1 rfl rfl)
theorem dJ10_indexOfSupplementary_4 : decode cJ10_indexOfSupplementary 4 = .ok (.ifCond .eq 65, 3) := dk_153 0 65 (dk_at dksJ10_indexOfSupplementary_0 4 rfl rfl)
theorem dJ10_indexOfSupplementary_7 : decode cJ10_indexOfSupplementary 7 = .ok (.iload_n 1, 1) := dk_27 (dk_at dksJ10_indexOfSupplementary_0 7 rfl rfl)
theorem dJ10_indexOfSupplementary_8 : decode cJ10_indexOfSupplementary 8 = .ok (.invokestatic 157, 3) := dk_184 0 157 (dk_at dksJ10_indexOfSupplementary_0 8 rfl rfl)
theorem dJ10_indexOfSupplementary_11 : decode cJ10_indexOfSupplementary 11 = .ok (.istore 4, 2) := dk_54 4 (dk_at dksJ10_indexOfSupplementary_0 11 rfl rfl)
theorem dJ10_indexOfSupplementary_13 : decode cJ10_indexOfSupplementary 13 = .ok (.iload_n 1, 1) := dk_27 (dk_at dksJ10_indexOfSupplementary_0 13 rfl rfl)
theorem dJ10_indexOfSupplementary_14 : decode cJ10_indexOfSupplementary 14 = .ok (.invokestatic 161, 3) := dk_184 0 161 (dk_at dksJ10_indexOfSupplementary_0 14 rfl rfl)
theorem dJ10_indexOfSupplementary_17 : decode cJ10_indexOfSupplementary 17 = .ok (.istore 5, 2) := dk_54 5 (dk_at dksJ10_indexOfSupplementary_0 17 rfl rfl)
theorem dJ10_indexOfSupplementary_19 : decode cJ10_indexOfSupplementary 19 = .ok (.iload_n 2, 1) := dk_28 (dk_at dksJ10_indexOfSupplementary_0 19 rfl rfl)
theorem dJ10_indexOfSupplementary_20 : decode cJ10_indexOfSupplementary 20 = .ok (.iload_n 3, 1) := dk_29 (dk_at dksJ10_indexOfSupplementary_0 20 rfl rfl)
theorem dJ10_indexOfSupplementary_21 : decode cJ10_indexOfSupplementary 21 = .ok (.aload_n 0, 1) := dk_42 (dk_at dksJ10_indexOfSupplementary_0 21 rfl rfl)
theorem dJ10_indexOfSupplementary_22 : decode cJ10_indexOfSupplementary 22 = .ok (.invokestatic 96, 3) := dk_184 0 96 (dk_at dksJ10_indexOfSupplementary_1 0 rfl rfl)
theorem dJ10_indexOfSupplementary_25 : decode cJ10_indexOfSupplementary 25 = .ok (.iload_n 2, 1) := dk_28 (dk_at dksJ10_indexOfSupplementary_1 3 rfl rfl)
theorem dJ10_indexOfSupplementary_26 : decode cJ10_indexOfSupplementary 26 = .ok (.istore 6, 2) := dk_54 6 (dk_at dksJ10_indexOfSupplementary_1 4 rfl rfl)
theorem dJ10_indexOfSupplementary_28 : decode cJ10_indexOfSupplementary 28 = .ok (.iload 6, 2) := dk_21 6 (dk_at dksJ10_indexOfSupplementary_1 6 rfl rfl)
theorem dJ10_indexOfSupplementary_30 : decode cJ10_indexOfSupplementary 30 = .ok (.iload_n 3, 1) := dk_29 (dk_at dksJ10_indexOfSupplementary_1 8 rfl rfl)
theorem dJ10_indexOfSupplementary_31 : decode cJ10_indexOfSupplementary 31 = .ok (.iconst 1, 1) := dk_4 (dk_at dksJ10_indexOfSupplementary_1 9 rfl rfl)
theorem dJ10_indexOfSupplementary_32 : decode cJ10_indexOfSupplementary 32 = .ok (.isub, 1) := dk_100 (dk_at dksJ10_indexOfSupplementary_1 10 rfl rfl)
theorem dJ10_indexOfSupplementary_33 : decode cJ10_indexOfSupplementary 33 = .ok (.if_icmp .ge 36, 3) := dk_162 0 36 (dk_at dksJ10_indexOfSupplementary_1 11 rfl rfl)
theorem dJ10_indexOfSupplementary_36 : decode cJ10_indexOfSupplementary 36 = .ok (.aload_n 0, 1) := dk_42 (dk_at dksJ10_indexOfSupplementary_1 14 rfl rfl)
theorem dJ10_indexOfSupplementary_37 : decode cJ10_indexOfSupplementary 37 = .ok (.iload 6, 2) := dk_21 6 (dk_at dksJ10_indexOfSupplementary_1 15 rfl rfl)
theorem dJ10_indexOfSupplementary_39 : decode cJ10_indexOfSupplementary 39 = .ok (.invokestatic 71, 3) := dk_184 0 71 (dk_at dksJ10_indexOfSupplementary_1 17 rfl rfl)
theorem dJ10_indexOfSupplementary_42 : decode cJ10_indexOfSupplementary 42 = .ok (.iload 4, 2) := dk_21 4 (dk_at dksJ10_indexOfSupplementary_1 20 rfl rfl)
theorem dJ10_indexOfSupplementary_44 : decode cJ10_indexOfSupplementary 44 = .ok (.if_icmp .ne 19, 3) := dk_160 0 19 (dk_at dksJ10_indexOfSupplementary_2 0 rfl rfl)
theorem dJ10_indexOfSupplementary_47 : decode cJ10_indexOfSupplementary 47 = .ok (.aload_n 0, 1) := dk_42 (dk_at dksJ10_indexOfSupplementary_2 3 rfl rfl)
theorem dJ10_indexOfSupplementary_48 : decode cJ10_indexOfSupplementary 48 = .ok (.iload 6, 2) := dk_21 6 (dk_at dksJ10_indexOfSupplementary_2 4 rfl rfl)
theorem dJ10_indexOfSupplementary_50 : decode cJ10_indexOfSupplementary 50 = .ok (.iconst 1, 1) := dk_4 (dk_at dksJ10_indexOfSupplementary_2 6 rfl rfl)
theorem dJ10_indexOfSupplementary_51 : decode cJ10_indexOfSupplementary 51 = .ok (.iadd, 1) := dk_96 (dk_at dksJ10_indexOfSupplementary_2 7 rfl rfl)
theorem dJ10_indexOfSupplementary_52 : decode cJ10_indexOfSupplementary 52 = .ok (.invokestatic 71, 3) := dk_184 0 71 (dk_at dksJ10_indexOfSupplementary_2 8 rfl rfl)
theorem dJ10_indexOfSupplementary_55 : decode cJ10_indexOfSupplementary 55 = .ok (.iload 5, 2) := dk_21 5 (dk_at dksJ10_indexOfSupplementary_2 11 rfl rfl)
theorem dJ10_indexOfSupplementary_57 : decode cJ10_indexOfSupplementary 57 = .ok (.if_icmp .ne 6, 3) := dk_160 0 6 (dk_at dksJ10_indexOfSupplementary_2 13 rfl rfl)
theorem dJ10_indexOfSupplementary_60 : decode cJ10_indexOfSupplementary 60 = .ok (.iload 6, 2) := dk_21 6 (dk_at dksJ10_indexOfSupplementary_2 16 rfl rfl)
theorem dJ10_indexOfSupplementary_62 : decode cJ10_indexOfSupplementary 62 = .ok (.ireturn, 1) := dk_172 (dk_at dksJ10_indexOfSupplementary_2 18 rfl rfl)
theorem dJ10_indexOfSupplementary_63 : decode cJ10_indexOfSupplementary 63 = .ok (.iinc 6 1, 3) := dk_132 6 1 (dk_at dksJ10_indexOfSupplementary_2 19 rfl rfl)
theorem dJ10_indexOfSupplementary_66 : decode cJ10_indexOfSupplementary 66 = .ok (.goto (-38), 3) := dk_167 255 218 (dk_at dksJ10_indexOfSupplementary_3 0 rfl rfl)
theorem dJ10_indexOfSupplementary_69 : decode cJ10_indexOfSupplementary 69 = .ok (.iconst (-1), 1) := dk_2 (dk_at dksJ10_indexOfSupplementary_3 3 rfl rfl)
theorem dJ10_indexOfSupplementary_70 : decode cJ10_indexOfSupplementary 70 = .ok (.ireturn, 1) := dk_172 (dk_at dksJ10_indexOfSupplementary_3 4 rfl rfl)
abbrev cJ10_charAt : ByteArray := prog_31_method_83_code
def yJ10_charAt : MethodName := ⟨RJ10, "charAt", "([BI)C"⟩
def dkwJ10_charAt_0 : List UInt8 := [27, 42, 184, 0, 67, 42, 27, 184, 0, 71, 172]
abbrev dktJ10_charAt_0 : List UInt8 := dkwJ10_charAt_0 ++ []
theorem dksJ10_charAt_0 : cJ10_charAt.data.toList.drop 0 = dktJ10_charAt_0 := by decide +kernel
theorem dJ10_charAt_0 : decode cJ10_charAt 0 = .ok (.iload_n 1, 1) := dk_27 (dk_at dksJ10_charAt_0 0 rfl rfl)
theorem dJ10_charAt_1 : decode cJ10_charAt 1 = .ok (.aload_n 0, 1) := dk_42 (dk_at dksJ10_charAt_0 1 rfl rfl)
theorem dJ10_charAt_2 : decode cJ10_charAt 2 = .ok (.invokestatic 67, 3) := dk_184 0 67 (dk_at dksJ10_charAt_0 2 rfl rfl)
theorem dJ10_charAt_5 : decode cJ10_charAt 5 = .ok (.aload_n 0, 1) := dk_42 (dk_at dksJ10_charAt_0 5 rfl rfl)
theorem dJ10_charAt_6 : decode cJ10_charAt 6 = .ok (.iload_n 1, 1) := dk_27 (dk_at dksJ10_charAt_0 6 rfl rfl)
theorem dJ10_charAt_7 : decode cJ10_charAt 7 = .ok (.invokestatic 71, 3) := dk_184 0 71 (dk_at dksJ10_charAt_0 7 rfl rfl)
theorem dJ10_charAt_10 : decode cJ10_charAt 10 = .ok (.ireturn, 1) := dk_172 (dk_at dksJ10_charAt_0 10 rfl rfl)
abbrev cJ10_checkIndex : ByteArray := prog_31_method_91_code
def yJ10_checkIndex : MethodName := ⟨RJ10, "checkIndex", "(I[B)V"⟩
def dkwJ10_checkIndex_0 : List UInt8 := [26, 43, 184, 0, 48, 184, 1, 158, 177]
abbrev dktJ10_checkIndex_0 : List UInt8 := dkwJ10_checkIndex_0 ++ []
theorem dksJ10_checkIndex_0 : cJ10_checkIndex.data.toList.drop 0 = dktJ10_checkIndex_0 := by decide +kernel
theorem dJ10_checkIndex_0 : decode cJ10_checkIndex 0 = .ok (.iload_n 0, 1) := dk_26 (dk_at dksJ10_checkIndex_0 0 rfl rfl)
theorem dJ10_checkIndex_1 : decode cJ10_checkIndex 1 = .ok (.aload_n 1, 1) := dk_43 (dk_at dksJ10_checkIndex_0 1 rfl rfl)
theorem dJ10_checkIndex_2 : decode cJ10_checkIndex 2 = .ok (.invokestatic 48, 3) := dk_184 0 48 (dk_at dksJ10_checkIndex_0 2 rfl rfl)
theorem dJ10_checkIndex_5 : decode cJ10_checkIndex 5 = .ok (.invokestatic 414, 3) := dk_184 1 158 (dk_at dksJ10_checkIndex_0 5 rfl rfl)
theorem dJ10_checkIndex_8 : decode cJ10_checkIndex 8 = .ok (.return_, 1) := dk_177 (dk_at dksJ10_checkIndex_0 8 rfl rfl)
abbrev cJ10_newBytesFor : ByteArray := prog_31_method_2_code
def yJ10_newBytesFor : MethodName := ⟨RJ10, "newBytesFor", "(I)[B"⟩
def dkwJ10_newBytesFor_0 : List UInt8 := [26, 184, 0, 11, 188, 8, 176]
abbrev dktJ10_newBytesFor_0 : List UInt8 := dkwJ10_newBytesFor_0 ++ []
theorem dksJ10_newBytesFor_0 : cJ10_newBytesFor.data.toList.drop 0 = dktJ10_newBytesFor_0 := by decide +kernel
theorem dJ10_newBytesFor_0 : decode cJ10_newBytesFor 0 = .ok (.iload_n 0, 1) := dk_26 (dk_at dksJ10_newBytesFor_0 0 rfl rfl)
theorem dJ10_newBytesFor_1 : decode cJ10_newBytesFor 1 = .ok (.invokestatic 11, 3) := dk_184 0 11 (dk_at dksJ10_newBytesFor_0 1 rfl rfl)
theorem dJ10_newBytesFor_4 : decode cJ10_newBytesFor 4 = .ok (.newarray .byte, 2) := dk_188_8 (dk_at dksJ10_newBytesFor_0 4 rfl rfl)
theorem dJ10_newBytesFor_6 : decode cJ10_newBytesFor 6 = .ok (.areturn, 1) := dk_176 (dk_at dksJ10_newBytesFor_0 6 rfl rfl)
abbrev cJ10_newBytesLength : ByteArray := prog_31_method_3_code
def yJ10_newBytesLength : MethodName := ⟨RJ10, "newBytesLength", "(I)I"⟩
def dkwJ10_newBytesLength_2 : List UInt8 := [182, 0, 32, 182, 0, 37, 183, 0, 41, 191, 26, 4, 120, 172]
abbrev dktJ10_newBytesLength_2 : List UInt8 := dkwJ10_newBytesLength_2 ++ []
def dkwJ10_newBytesLength_1 : List UInt8 := [187, 0, 23, 89, 183, 0, 25, 18, 26, 182, 0, 28, 26, 182, 0, 32, 18, 35, 182, 0, 28, 18, 20]
abbrev dktJ10_newBytesLength_1 : List UInt8 := dkwJ10_newBytesLength_1 ++ dktJ10_newBytesLength_2
def dkwJ10_newBytesLength_0 : List UInt8 := [26, 156, 0, 11, 187, 0, 17, 89, 183, 0, 19, 191, 26, 18, 20, 161, 0, 40, 187, 0, 21, 89]
abbrev dktJ10_newBytesLength_0 : List UInt8 := dkwJ10_newBytesLength_0 ++ dktJ10_newBytesLength_1
theorem dksJ10_newBytesLength_0 : cJ10_newBytesLength.data.toList.drop 0 = dktJ10_newBytesLength_0 := by decide +kernel
theorem dksJ10_newBytesLength_1 : cJ10_newBytesLength.data.toList.drop 22 = dktJ10_newBytesLength_1 := dk_seg dksJ10_newBytesLength_0 22 rfl rfl
theorem dksJ10_newBytesLength_2 : cJ10_newBytesLength.data.toList.drop 45 = dktJ10_newBytesLength_2 := dk_seg dksJ10_newBytesLength_1 23 rfl rfl
theorem dJ10_newBytesLength_0 : decode cJ10_newBytesLength 0 = .ok (.iload_n 0, 1) := dk_26 (dk_at dksJ10_newBytesLength_0 0 rfl rfl)
theorem dJ10_newBytesLength_1 : decode cJ10_newBytesLength 1 = .ok (.ifCond .ge 11, 3) := dk_156 0 11 (dk_at dksJ10_newBytesLength_0 1 rfl rfl)
theorem dJ10_newBytesLength_4 : decode cJ10_newBytesLength 4 = .ok (.new 17, 3) := dk_187 0 17 (dk_at dksJ10_newBytesLength_0 4 rfl rfl)
theorem dJ10_newBytesLength_7 : decode cJ10_newBytesLength 7 = .ok (.dup, 1) := dk_89 (dk_at dksJ10_newBytesLength_0 7 rfl rfl)
theorem dJ10_newBytesLength_8 : decode cJ10_newBytesLength 8 = .ok (.invokespecial 19, 3) := dk_183 0 19 (dk_at dksJ10_newBytesLength_0 8 rfl rfl)
theorem dJ10_newBytesLength_11 : decode cJ10_newBytesLength 11 = .ok (.athrow, 1) := dk_191 (dk_at dksJ10_newBytesLength_0 11 rfl rfl)
theorem dJ10_newBytesLength_12 : decode cJ10_newBytesLength 12 = .ok (.iload_n 0, 1) := dk_26 (dk_at dksJ10_newBytesLength_0 12 rfl rfl)
theorem dJ10_newBytesLength_13 : decode cJ10_newBytesLength 13 = .ok (.ldc 20, 2) := dk_18 20 (dk_at dksJ10_newBytesLength_0 13 rfl rfl)
theorem dJ10_newBytesLength_15 : decode cJ10_newBytesLength 15 = .ok (.if_icmp .lt 40, 3) := dk_161 0 40 (dk_at dksJ10_newBytesLength_0 15 rfl rfl)
theorem dJ10_newBytesLength_18 : decode cJ10_newBytesLength 18 = .ok (.new 21, 3) := dk_187 0 21 (dk_at dksJ10_newBytesLength_0 18 rfl rfl)
theorem dJ10_newBytesLength_21 : decode cJ10_newBytesLength 21 = .ok (.dup, 1) := dk_89 (dk_at dksJ10_newBytesLength_0 21 rfl rfl)
theorem dJ10_newBytesLength_22 : decode cJ10_newBytesLength 22 = .ok (.new 23, 3) := dk_187 0 23 (dk_at dksJ10_newBytesLength_1 0 rfl rfl)
theorem dJ10_newBytesLength_25 : decode cJ10_newBytesLength 25 = .ok (.dup, 1) := dk_89 (dk_at dksJ10_newBytesLength_1 3 rfl rfl)
theorem dJ10_newBytesLength_26 : decode cJ10_newBytesLength 26 = .ok (.invokespecial 25, 3) := dk_183 0 25 (dk_at dksJ10_newBytesLength_1 4 rfl rfl)
theorem dJ10_newBytesLength_29 : decode cJ10_newBytesLength 29 = .ok (.ldc 26, 2) := dk_18 26 (dk_at dksJ10_newBytesLength_1 7 rfl rfl)
theorem dJ10_newBytesLength_31 : decode cJ10_newBytesLength 31 = .ok (.invokevirtual 28, 3) := dk_182 0 28 (dk_at dksJ10_newBytesLength_1 9 rfl rfl)
theorem dJ10_newBytesLength_34 : decode cJ10_newBytesLength 34 = .ok (.iload_n 0, 1) := dk_26 (dk_at dksJ10_newBytesLength_1 12 rfl rfl)
theorem dJ10_newBytesLength_35 : decode cJ10_newBytesLength 35 = .ok (.invokevirtual 32, 3) := dk_182 0 32 (dk_at dksJ10_newBytesLength_1 13 rfl rfl)
theorem dJ10_newBytesLength_38 : decode cJ10_newBytesLength 38 = .ok (.ldc 35, 2) := dk_18 35 (dk_at dksJ10_newBytesLength_1 16 rfl rfl)
theorem dJ10_newBytesLength_40 : decode cJ10_newBytesLength 40 = .ok (.invokevirtual 28, 3) := dk_182 0 28 (dk_at dksJ10_newBytesLength_1 18 rfl rfl)
theorem dJ10_newBytesLength_43 : decode cJ10_newBytesLength 43 = .ok (.ldc 20, 2) := dk_18 20 (dk_at dksJ10_newBytesLength_1 21 rfl rfl)
theorem dJ10_newBytesLength_45 : decode cJ10_newBytesLength 45 = .ok (.invokevirtual 32, 3) := dk_182 0 32 (dk_at dksJ10_newBytesLength_2 0 rfl rfl)
theorem dJ10_newBytesLength_48 : decode cJ10_newBytesLength 48 = .ok (.invokevirtual 37, 3) := dk_182 0 37 (dk_at dksJ10_newBytesLength_2 3 rfl rfl)
theorem dJ10_newBytesLength_51 : decode cJ10_newBytesLength 51 = .ok (.invokespecial 41, 3) := dk_183 0 41 (dk_at dksJ10_newBytesLength_2 6 rfl rfl)
theorem dJ10_newBytesLength_54 : decode cJ10_newBytesLength 54 = .ok (.athrow, 1) := dk_191 (dk_at dksJ10_newBytesLength_2 9 rfl rfl)
theorem dJ10_newBytesLength_55 : decode cJ10_newBytesLength 55 = .ok (.iload_n 0, 1) := dk_26 (dk_at dksJ10_newBytesLength_2 10 rfl rfl)
theorem dJ10_newBytesLength_56 : decode cJ10_newBytesLength 56 = .ok (.iconst 1, 1) := dk_4 (dk_at dksJ10_newBytesLength_2 11 rfl rfl)
theorem dJ10_newBytesLength_57 : decode cJ10_newBytesLength 57 = .ok (.ishl, 1) := dk_120 (dk_at dksJ10_newBytesLength_2 12 rfl rfl)
theorem dJ10_newBytesLength_58 : decode cJ10_newBytesLength 58 = .ok (.ireturn, 1) := dk_172 (dk_at dksJ10_newBytesLength_2 13 rfl rfl)
abbrev cJ10_inflate : ByteArray := prog_31_method_86_code
def yJ10_inflate : MethodName := ⟨RJ10, "inflate", "([BI[BII)V"⟩
def dkwJ10_inflate_1 : List UInt8 := [132, 1, 1, 51, 17, 0, 255, 126, 184, 0, 111, 132, 5, 1, 167, 255, 228, 177]
abbrev dktJ10_inflate_1 : List UInt8 := dkwJ10_inflate_1 ++ []
def dkwJ10_inflate_0 : List UInt8 := [29, 21, 4, 44, 184, 0, 173, 3, 54, 5, 21, 5, 21, 4, 162, 0, 27, 44, 29, 132, 3, 1, 42, 27]
abbrev dktJ10_inflate_0 : List UInt8 := dkwJ10_inflate_0 ++ dktJ10_inflate_1
theorem dksJ10_inflate_0 : cJ10_inflate.data.toList.drop 0 = dktJ10_inflate_0 := by decide +kernel
theorem dksJ10_inflate_1 : cJ10_inflate.data.toList.drop 24 = dktJ10_inflate_1 := dk_seg dksJ10_inflate_0 24 rfl rfl
theorem dJ10_inflate_0 : decode cJ10_inflate 0 = .ok (.iload_n 3, 1) := dk_29 (dk_at dksJ10_inflate_0 0 rfl rfl)
theorem dJ10_inflate_1 : decode cJ10_inflate 1 = .ok (.iload 4, 2) := dk_21 4 (dk_at dksJ10_inflate_0 1 rfl rfl)
theorem dJ10_inflate_3 : decode cJ10_inflate 3 = .ok (.aload_n 2, 1) := dk_44 (dk_at dksJ10_inflate_0 3 rfl rfl)
theorem dJ10_inflate_4 : decode cJ10_inflate 4 = .ok (.invokestatic 173, 3) := dk_184 0 173 (dk_at dksJ10_inflate_0 4 rfl rfl)
theorem dJ10_inflate_7 : decode cJ10_inflate 7 = .ok (.iconst 0, 1) := dk_3 (dk_at dksJ10_inflate_0 7 rfl rfl)
theorem dJ10_inflate_8 : decode cJ10_inflate 8 = .ok (.istore 5, 2) := dk_54 5 (dk_at dksJ10_inflate_0 8 rfl rfl)
theorem dJ10_inflate_10 : decode cJ10_inflate 10 = .ok (.iload 5, 2) := dk_21 5 (dk_at dksJ10_inflate_0 10 rfl rfl)
theorem dJ10_inflate_12 : decode cJ10_inflate 12 = .ok (.iload 4, 2) := dk_21 4 (dk_at dksJ10_inflate_0 12 rfl rfl)
theorem dJ10_inflate_14 : decode cJ10_inflate 14 = .ok (.if_icmp .ge 27, 3) := dk_162 0 27 (dk_at dksJ10_inflate_0 14 rfl rfl)
theorem dJ10_inflate_17 : decode cJ10_inflate 17 = .ok (.aload_n 2, 1) := dk_44 (dk_at dksJ10_inflate_0 17 rfl rfl)
theorem dJ10_inflate_18 : decode cJ10_inflate 18 = .ok (.iload_n 3, 1) := dk_29 (dk_at dksJ10_inflate_0 18 rfl rfl)
theorem dJ10_inflate_19 : decode cJ10_inflate 19 = .ok (.iinc 3 1, 3) := dk_132 3 1 (dk_at dksJ10_inflate_0 19 rfl rfl)
theorem dJ10_inflate_22 : decode cJ10_inflate 22 = .ok (.aload_n 0, 1) := dk_42 (dk_at dksJ10_inflate_0 22 rfl rfl)
theorem dJ10_inflate_23 : decode cJ10_inflate 23 = .ok (.iload_n 1, 1) := dk_27 (dk_at dksJ10_inflate_0 23 rfl rfl)
theorem dJ10_inflate_24 : decode cJ10_inflate 24 = .ok (.iinc 1 1, 3) := dk_132 1 1 (dk_at dksJ10_inflate_1 0 rfl rfl)
theorem dJ10_inflate_27 : decode cJ10_inflate 27 = .ok (.baload, 1) := dk_51 (dk_at dksJ10_inflate_1 3 rfl rfl)
theorem dJ10_inflate_28 : decode cJ10_inflate 28 = .ok (.sipush 255, 3) := dk_17 0 255 (dk_at dksJ10_inflate_1 4 rfl rfl)
theorem dJ10_inflate_31 : decode cJ10_inflate 31 = .ok (.iand, 1) := dk_126 (dk_at dksJ10_inflate_1 7 rfl rfl)
theorem dJ10_inflate_32 : decode cJ10_inflate 32 = .ok (.invokestatic 111, 3) := dk_184 0 111 (dk_at dksJ10_inflate_1 8 rfl rfl)
theorem dJ10_inflate_35 : decode cJ10_inflate 35 = .ok (.iinc 5 1, 3) := dk_132 5 1 (dk_at dksJ10_inflate_1 11 rfl rfl)
theorem dJ10_inflate_38 : decode cJ10_inflate 38 = .ok (.goto (-28), 3) := dk_167 255 228 (dk_at dksJ10_inflate_1 14 rfl rfl)
theorem dJ10_inflate_41 : decode cJ10_inflate 41 = .ok (.return_, 1) := dk_177 (dk_at dksJ10_inflate_1 17 rfl rfl)
abbrev cJ10_checkBoundsOffCount : ByteArray := prog_31_method_94_code
def yJ10_checkBoundsOffCount : MethodName := ⟨RJ10, "checkBoundsOffCount", "(II[B)V"⟩
def dkwJ10_checkBoundsOffCount_0 : List UInt8 := [26, 27, 44, 184, 0, 48, 184, 1, 163, 87, 177]
abbrev dktJ10_checkBoundsOffCount_0 : List UInt8 := dkwJ10_checkBoundsOffCount_0 ++ []
theorem dksJ10_checkBoundsOffCount_0 : cJ10_checkBoundsOffCount.data.toList.drop 0 = dktJ10_checkBoundsOffCount_0 := by decide +kernel
theorem dJ10_checkBoundsOffCount_0 : decode cJ10_checkBoundsOffCount 0 = .ok (.iload_n 0, 1) := dk_26 (dk_at dksJ10_checkBoundsOffCount_0 0 rfl rfl)
theorem dJ10_checkBoundsOffCount_1 : decode cJ10_checkBoundsOffCount 1 = .ok (.iload_n 1, 1) := dk_27 (dk_at dksJ10_checkBoundsOffCount_0 1 rfl rfl)
theorem dJ10_checkBoundsOffCount_2 : decode cJ10_checkBoundsOffCount 2 = .ok (.aload_n 2, 1) := dk_44 (dk_at dksJ10_checkBoundsOffCount_0 2 rfl rfl)
theorem dJ10_checkBoundsOffCount_3 : decode cJ10_checkBoundsOffCount 3 = .ok (.invokestatic 48, 3) := dk_184 0 48 (dk_at dksJ10_checkBoundsOffCount_0 3 rfl rfl)
theorem dJ10_checkBoundsOffCount_6 : decode cJ10_checkBoundsOffCount 6 = .ok (.invokestatic 419, 3) := dk_184 1 163 (dk_at dksJ10_checkBoundsOffCount_0 6 rfl rfl)
theorem dJ10_checkBoundsOffCount_9 : decode cJ10_checkBoundsOffCount 9 = .ok (.pop, 1) := dk_87 (dk_at dksJ10_checkBoundsOffCount_0 9 rfl rfl)
theorem dJ10_checkBoundsOffCount_10 : decode cJ10_checkBoundsOffCount 10 = .ok (.return_, 1) := dk_177 (dk_at dksJ10_checkBoundsOffCount_0 10 rfl rfl)
abbrev cJ10_putChar : ByteArray := prog_31_method_4_code
def yJ10_putChar : MethodName := ⟨RJ10, "putChar", "([BII)V"⟩
def dkwJ10_putChar_2 : List UInt8 := [178, 0, 63, 122, 145, 84, 177]
abbrev dktJ10_putChar_2 : List UInt8 := dkwJ10_putChar_2 ++ []
def dkwJ10_putChar_1 : List UInt8 := [183, 0, 56, 191, 27, 4, 120, 60, 42, 27, 132, 1, 1, 28, 178, 0, 59, 122, 145, 84, 42, 27, 28]
abbrev dktJ10_putChar_1 : List UInt8 := dkwJ10_putChar_1 ++ dktJ10_putChar_2
def dkwJ10_putChar_0 : List UInt8 := [178, 0, 44, 154, 0, 25, 27, 155, 0, 11, 27, 42, 184, 0, 48, 161, 0, 13, 187, 0, 52, 89, 18, 54]
abbrev dktJ10_putChar_0 : List UInt8 := dkwJ10_putChar_0 ++ dktJ10_putChar_1
theorem dksJ10_putChar_0 : cJ10_putChar.data.toList.drop 0 = dktJ10_putChar_0 := by decide +kernel
theorem dksJ10_putChar_1 : cJ10_putChar.data.toList.drop 24 = dktJ10_putChar_1 := dk_seg dksJ10_putChar_0 24 rfl rfl
theorem dksJ10_putChar_2 : cJ10_putChar.data.toList.drop 47 = dktJ10_putChar_2 := dk_seg dksJ10_putChar_1 23 rfl rfl
theorem dJ10_putChar_0 : decode cJ10_putChar 0 = .ok (.getstatic 44, 3) := dk_178 0 44 (dk_at dksJ10_putChar_0 0 rfl rfl)
theorem dJ10_putChar_3 : decode cJ10_putChar 3 = .ok (.ifCond .ne 25, 3) := dk_154 0 25 (dk_at dksJ10_putChar_0 3 rfl rfl)
theorem dJ10_putChar_6 : decode cJ10_putChar 6 = .ok (.iload_n 1, 1) := dk_27 (dk_at dksJ10_putChar_0 6 rfl rfl)
theorem dJ10_putChar_7 : decode cJ10_putChar 7 = .ok (.ifCond .lt 11, 3) := dk_155 0 11 (dk_at dksJ10_putChar_0 7 rfl rfl)
theorem dJ10_putChar_10 : decode cJ10_putChar 10 = .ok (.iload_n 1, 1) := dk_27 (dk_at dksJ10_putChar_0 10 rfl rfl)
theorem dJ10_putChar_11 : decode cJ10_putChar 11 = .ok (.aload_n 0, 1) := dk_42 (dk_at dksJ10_putChar_0 11 rfl rfl)
theorem dJ10_putChar_12 : decode cJ10_putChar 12 = .ok (.invokestatic 48, 3) := dk_184 0 48 (dk_at dksJ10_putChar_0 12 rfl rfl)
theorem dJ10_putChar_15 : decode cJ10_putChar 15 = .ok (.if_icmp .lt 13, 3) := dk_161 0 13 (dk_at dksJ10_putChar_0 15 rfl rfl)
theorem dJ10_putChar_18 : decode cJ10_putChar 18 = .ok (.new 52, 3) := dk_187 0 52 (dk_at dksJ10_putChar_0 18 rfl rfl)
theorem dJ10_putChar_21 : decode cJ10_putChar 21 = .ok (.dup, 1) := dk_89 (dk_at dksJ10_putChar_0 21 rfl rfl)
theorem dJ10_putChar_22 : decode cJ10_putChar 22 = .ok (.ldc 54, 2) := dk_18 54 (dk_at dksJ10_putChar_0 22 rfl rfl)
theorem dJ10_putChar_24 : decode cJ10_putChar 24 = .ok (.invokespecial 56, 3) := dk_183 0 56 (dk_at dksJ10_putChar_1 0 rfl rfl)
theorem dJ10_putChar_27 : decode cJ10_putChar 27 = .ok (.athrow, 1) := dk_191 (dk_at dksJ10_putChar_1 3 rfl rfl)
theorem dJ10_putChar_28 : decode cJ10_putChar 28 = .ok (.iload_n 1, 1) := dk_27 (dk_at dksJ10_putChar_1 4 rfl rfl)
theorem dJ10_putChar_29 : decode cJ10_putChar 29 = .ok (.iconst 1, 1) := dk_4 (dk_at dksJ10_putChar_1 5 rfl rfl)
theorem dJ10_putChar_30 : decode cJ10_putChar 30 = .ok (.ishl, 1) := dk_120 (dk_at dksJ10_putChar_1 6 rfl rfl)
theorem dJ10_putChar_31 : decode cJ10_putChar 31 = .ok (.istore_n 1, 1) := dk_60 (dk_at dksJ10_putChar_1 7 rfl rfl)
theorem dJ10_putChar_32 : decode cJ10_putChar 32 = .ok (.aload_n 0, 1) := dk_42 (dk_at dksJ10_putChar_1 8 rfl rfl)
theorem dJ10_putChar_33 : decode cJ10_putChar 33 = .ok (.iload_n 1, 1) := dk_27 (dk_at dksJ10_putChar_1 9 rfl rfl)
theorem dJ10_putChar_34 : decode cJ10_putChar 34 = .ok (.iinc 1 1, 3) := dk_132 1 1 (dk_at dksJ10_putChar_1 10 rfl rfl)
theorem dJ10_putChar_37 : decode cJ10_putChar 37 = .ok (.iload_n 2, 1) := dk_28 (dk_at dksJ10_putChar_1 13 rfl rfl)
theorem dJ10_putChar_38 : decode cJ10_putChar 38 = .ok (.getstatic 59, 3) := dk_178 0 59 (dk_at dksJ10_putChar_1 14 rfl rfl)
theorem dJ10_putChar_41 : decode cJ10_putChar 41 = .ok (.ishr, 1) := dk_122 (dk_at dksJ10_putChar_1 17 rfl rfl)
theorem dJ10_putChar_42 : decode cJ10_putChar 42 = .ok (.i2b, 1) := dk_145 (dk_at dksJ10_putChar_1 18 rfl rfl)
theorem dJ10_putChar_43 : decode cJ10_putChar 43 = .ok (.bastore, 1) := dk_84 (dk_at dksJ10_putChar_1 19 rfl rfl)
theorem dJ10_putChar_44 : decode cJ10_putChar 44 = .ok (.aload_n 0, 1) := dk_42 (dk_at dksJ10_putChar_1 20 rfl rfl)
theorem dJ10_putChar_45 : decode cJ10_putChar 45 = .ok (.iload_n 1, 1) := dk_27 (dk_at dksJ10_putChar_1 21 rfl rfl)
theorem dJ10_putChar_46 : decode cJ10_putChar 46 = .ok (.iload_n 2, 1) := dk_28 (dk_at dksJ10_putChar_1 22 rfl rfl)
theorem dJ10_putChar_47 : decode cJ10_putChar 47 = .ok (.getstatic 63, 3) := dk_178 0 63 (dk_at dksJ10_putChar_2 0 rfl rfl)
theorem dJ10_putChar_50 : decode cJ10_putChar 50 = .ok (.ishr, 1) := dk_122 (dk_at dksJ10_putChar_2 3 rfl rfl)
theorem dJ10_putChar_51 : decode cJ10_putChar 51 = .ok (.i2b, 1) := dk_145 (dk_at dksJ10_putChar_2 4 rfl rfl)
theorem dJ10_putChar_52 : decode cJ10_putChar 52 = .ok (.bastore, 1) := dk_84 (dk_at dksJ10_putChar_2 5 rfl rfl)
theorem dJ10_putChar_53 : decode cJ10_putChar 53 = .ok (.return_, 1) := dk_177 (dk_at dksJ10_putChar_2 6 rfl rfl)
abbrev cJ10_putCharSB : ByteArray := prog_31_method_71_code
def yJ10_putCharSB : MethodName := ⟨RJ10, "putCharSB", "([BII)V"⟩
def dkwJ10_putCharSB_0 : List UInt8 := [27, 42, 184, 0, 67, 42, 27, 28, 184, 0, 111, 177]
abbrev dktJ10_putCharSB_0 : List UInt8 := dkwJ10_putCharSB_0 ++ []
theorem dksJ10_putCharSB_0 : cJ10_putCharSB.data.toList.drop 0 = dktJ10_putCharSB_0 := by decide +kernel
theorem dJ10_putCharSB_0 : decode cJ10_putCharSB 0 = .ok (.iload_n 1, 1) := dk_27 (dk_at dksJ10_putCharSB_0 0 rfl rfl)
theorem dJ10_putCharSB_1 : decode cJ10_putCharSB 1 = .ok (.aload_n 0, 1) := dk_42 (dk_at dksJ10_putCharSB_0 1 rfl rfl)
theorem dJ10_putCharSB_2 : decode cJ10_putCharSB 2 = .ok (.invokestatic 67, 3) := dk_184 0 67 (dk_at dksJ10_putCharSB_0 2 rfl rfl)
theorem dJ10_putCharSB_5 : decode cJ10_putCharSB 5 = .ok (.aload_n 0, 1) := dk_42 (dk_at dksJ10_putCharSB_0 5 rfl rfl)
theorem dJ10_putCharSB_6 : decode cJ10_putCharSB 6 = .ok (.iload_n 1, 1) := dk_27 (dk_at dksJ10_putCharSB_0 6 rfl rfl)
theorem dJ10_putCharSB_7 : decode cJ10_putCharSB 7 = .ok (.iload_n 2, 1) := dk_28 (dk_at dksJ10_putCharSB_0 7 rfl rfl)
theorem dJ10_putCharSB_8 : decode cJ10_putCharSB 8 = .ok (.invokestatic 111, 3) := dk_184 0 111 (dk_at dksJ10_putCharSB_0 8 rfl rfl)
theorem dJ10_putCharSB_11 : decode cJ10_putCharSB 11 = .ok (.return_, 1) := dk_177 (dk_at dksJ10_putCharSB_0 11 rfl rfl)
theorem q150 : (Jvm.Cond.initialized "java/lang/StringUTF16") ∈ lw_all := lw_g (lw_at lw_m1 16 rfl) rfl
theorem q574 : (Jvm.Cond.static ({ cls := "java/lang/StringUTF16", name := "getChar", desc := "([BI)C" } : Jvm.MethodName)) ∈ lw_all := lw_g (lw_at lw_m2 200 rfl) rfl
theorem q575 : (Jvm.Cond.code ({ cls := "java/lang/StringUTF16", name := "getChar", desc := "([BI)C" } : Jvm.MethodName) prog_31_method_5_code (2 : Nat) (Option.some Jvm.ClassFile.FieldType.char)) ∈ lw_all := lw_g (lw_at lw_m2 201 rfl) rfl
theorem q576 : (Jvm.Cond.fieldLink "java/lang/StringUTF16" (44 : Nat) "java/lang/StringUTF16" "$assertionsDisabled" "Z") ∈ lw_all := lw_g (lw_at lw_m2 202 rfl) rfl
theorem q577 : (Jvm.Cond.laysStatic "java/lang/StringUTF16" "$assertionsDisabled" "Z") ∈ lw_tbl := lw_at lw_m2 203 rfl
theorem q578 : (Jvm.Cond.methodLink "java/lang/StringUTF16" (48 : Nat) ({ cls := "java/lang/StringUTF16", name := "length", desc := "([B)I" } : Jvm.MethodName)) ∈ lw_all := lw_g (lw_at lw_m2 204 rfl) rfl
theorem q579 : (Jvm.Cond.static ({ cls := "java/lang/StringUTF16", name := "length", desc := "([B)I" } : Jvm.MethodName)) ∈ lw_all := lw_g (lw_at lw_m2 205 rfl) rfl
theorem q580 : (Jvm.Cond.code ({ cls := "java/lang/StringUTF16", name := "length", desc := "([B)I" } : Jvm.MethodName) prog_31_method_6_code (1 : Nat) (Option.some Jvm.ClassFile.FieldType.int)) ∈ lw_all := lw_g (lw_at lw_m2 206 rfl) rfl
theorem q581 : (Jvm.Cond.fieldLink "java/lang/StringUTF16" (59 : Nat) "java/lang/StringUTF16" "HI_BYTE_SHIFT" "I") ∈ lw_all := lw_g (lw_at lw_m2 207 rfl) rfl
theorem q582 : (Jvm.Cond.laysStatic "java/lang/StringUTF16" "HI_BYTE_SHIFT" "I") ∈ lw_tbl := lw_at lw_m2 208 rfl
theorem q583 : (Jvm.Cond.fieldLink "java/lang/StringUTF16" (63 : Nat) "java/lang/StringUTF16" "LO_BYTE_SHIFT" "I") ∈ lw_all := lw_g (lw_at lw_m2 209 rfl) rfl
theorem q584 : (Jvm.Cond.laysStatic "java/lang/StringUTF16" "LO_BYTE_SHIFT" "I") ∈ lw_tbl := lw_at lw_m2 210 rfl
theorem q885 : (Jvm.Cond.static ({ cls := "java/lang/StringUTF16", name := "indexOf", desc := "([BIII)I" } : Jvm.MethodName)) ∈ lw_all := lw_g (lw_at lw_m4 31 rfl) rfl
theorem q886 : (Jvm.Cond.code ({ cls := "java/lang/StringUTF16", name := "indexOf", desc := "([BIII)I" } : Jvm.MethodName) prog_31_method_40_code (4 : Nat) (Option.some Jvm.ClassFile.FieldType.int)) ∈ lw_all := lw_g (lw_at lw_m4 32 rfl) rfl
theorem q887 : (Jvm.Cond.methodLink "java/lang/StringUTF16" (224 : Nat) ({ cls := "java/lang/Math", name := "max", desc := "(II)I" } : Jvm.MethodName)) ∈ lw_all := lw_g (lw_at lw_m4 33 rfl) rfl
theorem q888 : (Jvm.Cond.methodLink "java/lang/StringUTF16" (183 : Nat) ({ cls := "java/lang/Math", name := "min", desc := "(II)I" } : Jvm.MethodName)) ∈ lw_all := lw_g (lw_at lw_m4 34 rfl) rfl
theorem q889 : (Jvm.Cond.constant "java/lang/StringUTF16" (227 : Nat) (65536 : Int32)) ∈ lw_all := lw_g (lw_at lw_m4 35 rfl) rfl
theorem q890 : (Jvm.Cond.methodLink "java/lang/StringUTF16" (228 : Nat) ({ cls := "java/lang/StringUTF16", name := "indexOfChar", desc := "([BIII)I" } : Jvm.MethodName)) ∈ lw_all := lw_g (lw_at lw_m4 36 rfl) rfl
theorem q891 : (Jvm.Cond.static ({ cls := "java/lang/StringUTF16", name := "indexOfChar", desc := "([BIII)I" } : Jvm.MethodName)) ∈ lw_all := lw_g (lw_at lw_m4 37 rfl) rfl
theorem q892 : (Jvm.Cond.code ({ cls := "java/lang/StringUTF16", name := "indexOfChar", desc := "([BIII)I" } : Jvm.MethodName) prog_31_method_47_code (4 : Nat) (Option.some Jvm.ClassFile.FieldType.int)) ∈ lw_all := lw_g (lw_at lw_m4 38 rfl) rfl
theorem q893 : (Jvm.Cond.methodLink "java/lang/StringUTF16" (96 : Nat) ({ cls := "java/lang/StringUTF16", name := "checkBoundsBeginEnd", desc := "(II[B)V" } : Jvm.MethodName)) ∈ lw_all := lw_g (lw_at lw_m4 39 rfl) rfl
theorem q894 : (Jvm.Cond.static ({ cls := "java/lang/StringUTF16", name := "checkBoundsBeginEnd", desc := "(II[B)V" } : Jvm.MethodName)) ∈ lw_all := lw_g (lw_at lw_m4 40 rfl) rfl
theorem q895 : (Jvm.Cond.code ({ cls := "java/lang/StringUTF16", name := "checkBoundsBeginEnd", desc := "(II[B)V" } : Jvm.MethodName) prog_31_method_93_code (3 : Nat) (Option.none : Option Jvm.ClassFile.FieldType)) ∈ lw_all := lw_g (lw_at lw_m4 41 rfl) rfl
theorem q896 : (Jvm.Cond.methodLink "java/lang/StringUTF16" (241 : Nat) ({ cls := "java/lang/String", name := "checkBoundsBeginEnd", desc := "(III)V" } : Jvm.MethodName)) ∈ lw_all := lw_g (lw_at lw_m4 42 rfl) rfl
theorem q902 : (Jvm.Cond.methodLink "java/lang/StringUTF16" (244 : Nat) ({ cls := "java/lang/StringUTF16", name := "indexOfCharUnsafe", desc := "([BIII)I" } : Jvm.MethodName)) ∈ lw_all := lw_g (lw_at lw_m4 48 rfl) rfl
theorem q903 : (Jvm.Cond.static ({ cls := "java/lang/StringUTF16", name := "indexOfCharUnsafe", desc := "([BIII)I" } : Jvm.MethodName)) ∈ lw_all := lw_g (lw_at lw_m4 49 rfl) rfl
theorem q904 : (Jvm.Cond.code ({ cls := "java/lang/StringUTF16", name := "indexOfCharUnsafe", desc := "([BIII)I" } : Jvm.MethodName) prog_31_method_48_code (5 : Nat) (Option.some Jvm.ClassFile.FieldType.int)) ∈ lw_all := lw_g (lw_at lw_m4 50 rfl) rfl
theorem q905 : (Jvm.Cond.methodLink "java/lang/StringUTF16" (71 : Nat) ({ cls := "java/lang/StringUTF16", name := "getChar", desc := "([BI)C" } : Jvm.MethodName)) ∈ lw_all := lw_g (lw_at lw_m4 51 rfl) rfl
theorem q906 : (Jvm.Cond.methodLink "java/lang/StringUTF16" (232 : Nat) ({ cls := "java/lang/StringUTF16", name := "indexOfSupplementary", desc := "([BIII)I" } : Jvm.MethodName)) ∈ lw_all := lw_g (lw_at lw_m4 52 rfl) rfl
theorem q907 : (Jvm.Cond.static ({ cls := "java/lang/StringUTF16", name := "indexOfSupplementary", desc := "([BIII)I" } : Jvm.MethodName)) ∈ lw_all := lw_g (lw_at lw_m4 53 rfl) rfl
theorem q908 : (Jvm.Cond.code ({ cls := "java/lang/StringUTF16", name := "indexOfSupplementary", desc := "([BIII)I" } : Jvm.MethodName) prog_31_method_49_code (7 : Nat) (Option.some Jvm.ClassFile.FieldType.int)) ∈ lw_all := lw_g (lw_at lw_m4 54 rfl) rfl
theorem q909 : (Jvm.Cond.methodLink "java/lang/StringUTF16" (164 : Nat) ({ cls := "java/lang/Character", name := "isValidCodePoint", desc := "(I)Z" } : Jvm.MethodName)) ∈ lw_all := lw_g (lw_at lw_m4 55 rfl) rfl
theorem q912 : (Jvm.Cond.methodLink "java/lang/StringUTF16" (157 : Nat) ({ cls := "java/lang/Character", name := "highSurrogate", desc := "(I)C" } : Jvm.MethodName)) ∈ lw_all := lw_g (lw_at lw_m4 58 rfl) rfl
theorem q916 : (Jvm.Cond.methodLink "java/lang/StringUTF16" (161 : Nat) ({ cls := "java/lang/Character", name := "lowSurrogate", desc := "(I)C" } : Jvm.MethodName)) ∈ lw_all := lw_g (lw_at lw_m4 62 rfl) rfl
theorem q942 : (Jvm.Cond.static ({ cls := "java/lang/StringUTF16", name := "charAt", desc := "([BI)C" } : Jvm.MethodName)) ∈ lw_all := lw_g (lw_at lw_m4 88 rfl) rfl
theorem q943 : (Jvm.Cond.code ({ cls := "java/lang/StringUTF16", name := "charAt", desc := "([BI)C" } : Jvm.MethodName) prog_31_method_83_code (2 : Nat) (Option.some Jvm.ClassFile.FieldType.char)) ∈ lw_all := lw_g (lw_at lw_m4 89 rfl) rfl
theorem q944 : (Jvm.Cond.methodLink "java/lang/StringUTF16" (67 : Nat) ({ cls := "java/lang/StringUTF16", name := "checkIndex", desc := "(I[B)V" } : Jvm.MethodName)) ∈ lw_all := lw_g (lw_at lw_m4 90 rfl) rfl
theorem q945 : (Jvm.Cond.static ({ cls := "java/lang/StringUTF16", name := "checkIndex", desc := "(I[B)V" } : Jvm.MethodName)) ∈ lw_all := lw_g (lw_at lw_m4 91 rfl) rfl
theorem q946 : (Jvm.Cond.code ({ cls := "java/lang/StringUTF16", name := "checkIndex", desc := "(I[B)V" } : Jvm.MethodName) prog_31_method_91_code (2 : Nat) (Option.none : Option Jvm.ClassFile.FieldType)) ∈ lw_all := lw_g (lw_at lw_m4 92 rfl) rfl
theorem q947 : (Jvm.Cond.methodLink "java/lang/StringUTF16" (414 : Nat) ({ cls := "java/lang/String", name := "checkIndex", desc := "(II)V" } : Jvm.MethodName)) ∈ lw_all := lw_g (lw_at lw_m4 93 rfl) rfl
theorem q1057 : (Jvm.Cond.static ({ cls := "java/lang/StringUTF16", name := "newBytesFor", desc := "(I)[B" } : Jvm.MethodName)) ∈ lw_all := lw_g (lw_at lw_m4 203 rfl) rfl
theorem q1058 : (Jvm.Cond.code ({ cls := "java/lang/StringUTF16", name := "newBytesFor", desc := "(I)[B" } : Jvm.MethodName) prog_31_method_2_code (1 : Nat) (Option.some (Jvm.ClassFile.FieldType.array Jvm.ClassFile.FieldType.byte))) ∈ lw_all := lw_g (lw_at lw_m4 204 rfl) rfl
theorem q1059 : (Jvm.Cond.methodLink "java/lang/StringUTF16" (11 : Nat) ({ cls := "java/lang/StringUTF16", name := "newBytesLength", desc := "(I)I" } : Jvm.MethodName)) ∈ lw_all := lw_g (lw_at lw_m4 205 rfl) rfl
theorem q1060 : (Jvm.Cond.static ({ cls := "java/lang/StringUTF16", name := "newBytesLength", desc := "(I)I" } : Jvm.MethodName)) ∈ lw_all := lw_g (lw_at lw_m4 206 rfl) rfl
theorem q1061 : (Jvm.Cond.code ({ cls := "java/lang/StringUTF16", name := "newBytesLength", desc := "(I)I" } : Jvm.MethodName) prog_31_method_3_code (1 : Nat) (Option.some Jvm.ClassFile.FieldType.int)) ∈ lw_all := lw_g (lw_at lw_m4 207 rfl) rfl
theorem q1062 : (Jvm.Cond.constant "java/lang/StringUTF16" (20 : Nat) (1073741823 : Int32)) ∈ lw_all := lw_g (lw_at lw_m4 208 rfl) rfl
theorem q1134 : (Jvm.Cond.static ({ cls := "java/lang/StringUTF16", name := "inflate", desc := "([BI[BII)V" } : Jvm.MethodName)) ∈ lw_all := lw_g (lw_at lw_m5 40 rfl) rfl
theorem q1135 : (Jvm.Cond.code ({ cls := "java/lang/StringUTF16", name := "inflate", desc := "([BI[BII)V" } : Jvm.MethodName) prog_31_method_86_code (6 : Nat) (Option.none : Option Jvm.ClassFile.FieldType)) ∈ lw_all := lw_g (lw_at lw_m5 41 rfl) rfl
theorem q1136 : (Jvm.Cond.methodLink "java/lang/StringUTF16" (173 : Nat) ({ cls := "java/lang/StringUTF16", name := "checkBoundsOffCount", desc := "(II[B)V" } : Jvm.MethodName)) ∈ lw_all := lw_g (lw_at lw_m5 42 rfl) rfl
theorem q1137 : (Jvm.Cond.static ({ cls := "java/lang/StringUTF16", name := "checkBoundsOffCount", desc := "(II[B)V" } : Jvm.MethodName)) ∈ lw_all := lw_g (lw_at lw_m5 43 rfl) rfl
theorem q1138 : (Jvm.Cond.code ({ cls := "java/lang/StringUTF16", name := "checkBoundsOffCount", desc := "(II[B)V" } : Jvm.MethodName) prog_31_method_94_code (3 : Nat) (Option.none : Option Jvm.ClassFile.FieldType)) ∈ lw_all := lw_g (lw_at lw_m5 44 rfl) rfl
theorem q1139 : (Jvm.Cond.methodLink "java/lang/StringUTF16" (419 : Nat) ({ cls := "java/lang/String", name := "checkBoundsOffCount", desc := "(III)I" } : Jvm.MethodName)) ∈ lw_all := lw_g (lw_at lw_m5 45 rfl) rfl
theorem q1145 : (Jvm.Cond.methodLink "java/lang/StringUTF16" (111 : Nat) ({ cls := "java/lang/StringUTF16", name := "putChar", desc := "([BII)V" } : Jvm.MethodName)) ∈ lw_all := lw_g (lw_at lw_m5 51 rfl) rfl
theorem q1146 : (Jvm.Cond.static ({ cls := "java/lang/StringUTF16", name := "putChar", desc := "([BII)V" } : Jvm.MethodName)) ∈ lw_all := lw_g (lw_at lw_m5 52 rfl) rfl
theorem q1147 : (Jvm.Cond.code ({ cls := "java/lang/StringUTF16", name := "putChar", desc := "([BII)V" } : Jvm.MethodName) prog_31_method_4_code (3 : Nat) (Option.none : Option Jvm.ClassFile.FieldType)) ∈ lw_all := lw_g (lw_at lw_m5 53 rfl) rfl
theorem q1149 : (Jvm.Cond.static ({ cls := "java/lang/StringUTF16", name := "putCharSB", desc := "([BII)V" } : Jvm.MethodName)) ∈ lw_all := lw_g (lw_at lw_m5 55 rfl) rfl
theorem q1150 : (Jvm.Cond.code ({ cls := "java/lang/StringUTF16", name := "putCharSB", desc := "([BII)V" } : Jvm.MethodName) prog_31_method_71_code (3 : Nat) (Option.none : Option Jvm.ClassFile.FieldType)) ∈ lw_all := lw_g (lw_at lw_m5 56 rfl) rfl

/-! jdk/internal/util/Preconditions -/
set_option maxRecDepth 100000
def RJ11 : String := "jdk/internal/util/Preconditions"
abbrev cJ11_checkIndex : ByteArray := prog_47_method_11_code
def yJ11_checkIndex : MethodName := ⟨RJ11, "checkIndex", "(IILjava/util/function/BiFunction;)I"⟩
def dkwJ11_checkIndex_0 : List UInt8 := [26, 155, 0, 8, 26, 27, 161, 0, 10, 44, 26, 27, 184, 0, 95, 191, 26, 172]
abbrev dktJ11_checkIndex_0 : List UInt8 := dkwJ11_checkIndex_0 ++ []
theorem dksJ11_checkIndex_0 : cJ11_checkIndex.data.toList.drop 0 = dktJ11_checkIndex_0 := by decide +kernel
theorem dJ11_checkIndex_0 : decode cJ11_checkIndex 0 = .ok (.iload_n 0, 1) := dk_26 (dk_at dksJ11_checkIndex_0 0 rfl rfl)
theorem dJ11_checkIndex_1 : decode cJ11_checkIndex 1 = .ok (.ifCond .lt 8, 3) := dk_155 0 8 (dk_at dksJ11_checkIndex_0 1 rfl rfl)
theorem dJ11_checkIndex_4 : decode cJ11_checkIndex 4 = .ok (.iload_n 0, 1) := dk_26 (dk_at dksJ11_checkIndex_0 4 rfl rfl)
theorem dJ11_checkIndex_5 : decode cJ11_checkIndex 5 = .ok (.iload_n 1, 1) := dk_27 (dk_at dksJ11_checkIndex_0 5 rfl rfl)
theorem dJ11_checkIndex_6 : decode cJ11_checkIndex 6 = .ok (.if_icmp .lt 10, 3) := dk_161 0 10 (dk_at dksJ11_checkIndex_0 6 rfl rfl)
theorem dJ11_checkIndex_9 : decode cJ11_checkIndex 9 = .ok (.aload_n 2, 1) := dk_44 (dk_at dksJ11_checkIndex_0 9 rfl rfl)
theorem dJ11_checkIndex_10 : decode cJ11_checkIndex 10 = .ok (.iload_n 0, 1) := dk_26 (dk_at dksJ11_checkIndex_0 10 rfl rfl)
theorem dJ11_checkIndex_11 : decode cJ11_checkIndex 11 = .ok (.iload_n 1, 1) := dk_27 (dk_at dksJ11_checkIndex_0 11 rfl rfl)
theorem dJ11_checkIndex_12 : decode cJ11_checkIndex 12 = .ok (.invokestatic 95, 3) := dk_184 0 95 (dk_at dksJ11_checkIndex_0 12 rfl rfl)
theorem dJ11_checkIndex_15 : decode cJ11_checkIndex 15 = .ok (.athrow, 1) := dk_191 (dk_at dksJ11_checkIndex_0 15 rfl rfl)
theorem dJ11_checkIndex_16 : decode cJ11_checkIndex 16 = .ok (.iload_n 0, 1) := dk_26 (dk_at dksJ11_checkIndex_0 16 rfl rfl)
theorem dJ11_checkIndex_17 : decode cJ11_checkIndex 17 = .ok (.ireturn, 1) := dk_172 (dk_at dksJ11_checkIndex_0 17 rfl rfl)
abbrev cJ11_checkFromToIndex : ByteArray := prog_47_method_12_code
def yJ11_checkFromToIndex : MethodName := ⟨RJ11, "checkFromToIndex", "(IIILjava/util/function/BiFunction;)I"⟩
def dkwJ11_checkFromToIndex_0 : List UInt8 := [26, 155, 0, 13, 26, 27, 163, 0, 8, 27, 28, 164, 0, 11, 45, 26, 27, 28, 184, 0, 99, 191, 26, 172]
abbrev dktJ11_checkFromToIndex_0 : List UInt8 := dkwJ11_checkFromToIndex_0 ++ []
theorem dksJ11_checkFromToIndex_0 : cJ11_checkFromToIndex.data.toList.drop 0 = dktJ11_checkFromToIndex_0 := by decide +kernel
theorem dJ11_checkFromToIndex_0 : decode cJ11_checkFromToIndex 0 = .ok (.iload_n 0, 1) := dk_26 (dk_at dksJ11_checkFromToIndex_0 0 rfl rfl)
theorem dJ11_checkFromToIndex_1 : decode cJ11_checkFromToIndex 1 = .ok (.ifCond .lt 13, 3) := dk_155 0 13 (dk_at dksJ11_checkFromToIndex_0 1 rfl rfl)
theorem dJ11_checkFromToIndex_4 : decode cJ11_checkFromToIndex 4 = .ok (.iload_n 0, 1) := dk_26 (dk_at dksJ11_checkFromToIndex_0 4 rfl rfl)
theorem dJ11_checkFromToIndex_5 : decode cJ11_checkFromToIndex 5 = .ok (.iload_n 1, 1) := dk_27 (dk_at dksJ11_checkFromToIndex_0 5 rfl rfl)
theorem dJ11_checkFromToIndex_6 : decode cJ11_checkFromToIndex 6 = .ok (.if_icmp .gt 8, 3) := dk_163 0 8 (dk_at dksJ11_checkFromToIndex_0 6 rfl rfl)
theorem dJ11_checkFromToIndex_9 : decode cJ11_checkFromToIndex 9 = .ok (.iload_n 1, 1) := dk_27 (dk_at dksJ11_checkFromToIndex_0 9 rfl rfl)
theorem dJ11_checkFromToIndex_10 : decode cJ11_checkFromToIndex 10 = .ok (.iload_n 2, 1) := dk_28 (dk_at dksJ11_checkFromToIndex_0 10 rfl rfl)
theorem dJ11_checkFromToIndex_11 : decode cJ11_checkFromToIndex 11 = .ok (.if_icmp .le 11, 3) := dk_164 0 11 (dk_at dksJ11_checkFromToIndex_0 11 rfl rfl)
theorem dJ11_checkFromToIndex_14 : decode cJ11_checkFromToIndex 14 = .ok (.aload_n 3, 1) := dk_45 (dk_at dksJ11_checkFromToIndex_0 14 rfl rfl)
theorem dJ11_checkFromToIndex_15 : decode cJ11_checkFromToIndex 15 = .ok (.iload_n 0, 1) := dk_26 (dk_at dksJ11_checkFromToIndex_0 15 rfl rfl)
theorem dJ11_checkFromToIndex_16 : decode cJ11_checkFromToIndex 16 = .ok (.iload_n 1, 1) := dk_27 (dk_at dksJ11_checkFromToIndex_0 16 rfl rfl)
theorem dJ11_checkFromToIndex_17 : decode cJ11_checkFromToIndex 17 = .ok (.iload_n 2, 1) := dk_28 (dk_at dksJ11_checkFromToIndex_0 17 rfl rfl)
theorem dJ11_checkFromToIndex_18 : decode cJ11_checkFromToIndex 18 = .ok (.invokestatic 99, 3) := dk_184 0 99 (dk_at dksJ11_checkFromToIndex_0 18 rfl rfl)
theorem dJ11_checkFromToIndex_21 : decode cJ11_checkFromToIndex 21 = .ok (.athrow, 1) := dk_191 (dk_at dksJ11_checkFromToIndex_0 21 rfl rfl)
theorem dJ11_checkFromToIndex_22 : decode cJ11_checkFromToIndex 22 = .ok (.iload_n 0, 1) := dk_26 (dk_at dksJ11_checkFromToIndex_0 22 rfl rfl)
theorem dJ11_checkFromToIndex_23 : decode cJ11_checkFromToIndex 23 = .ok (.ireturn, 1) := dk_172 (dk_at dksJ11_checkFromToIndex_0 23 rfl rfl)
abbrev cJ11_checkFromIndexSize : ByteArray := prog_47_method_13_code
def yJ11_checkFromIndexSize : MethodName := ⟨RJ11, "checkFromIndexSize", "(IIILjava/util/function/BiFunction;)I"⟩
def dkwJ11_checkFromIndexSize_1 : List UInt8 := [172]
abbrev dktJ11_checkFromIndexSize_1 : List UInt8 := dkwJ11_checkFromIndexSize_1 ++ []
def dkwJ11_checkFromIndexSize_0 : List UInt8 := [28, 26, 128, 27, 128, 155, 0, 10, 27, 28, 26, 100, 164, 0, 11, 45, 26, 27, 28, 184, 0, 103, 191, 26]
abbrev dktJ11_checkFromIndexSize_0 : List UInt8 := dkwJ11_checkFromIndexSize_0 ++ dktJ11_checkFromIndexSize_1
theorem dksJ11_checkFromIndexSize_0 : cJ11_checkFromIndexSize.data.toList.drop 0 = dktJ11_checkFromIndexSize_0 := by decide +kernel
theorem dksJ11_checkFromIndexSize_1 : cJ11_checkFromIndexSize.data.toList.drop 24 = dktJ11_checkFromIndexSize_1 := dk_seg dksJ11_checkFromIndexSize_0 24 rfl rfl
theorem dJ11_checkFromIndexSize_0 : decode cJ11_checkFromIndexSize 0 = .ok (.iload_n 2, 1) := dk_28 (dk_at dksJ11_checkFromIndexSize_0 0 rfl rfl)
theorem dJ11_checkFromIndexSize_1 : decode cJ11_checkFromIndexSize 1 = .ok (.iload_n 0, 1) := dk_26 (dk_at dksJ11_checkFromIndexSize_0 1 rfl rfl)
theorem dJ11_checkFromIndexSize_2 : decode cJ11_checkFromIndexSize 2 = .ok (.ior, 1) := dk_128 (dk_at dksJ11_checkFromIndexSize_0 2 rfl rfl)
theorem dJ11_checkFromIndexSize_3 : decode cJ11_checkFromIndexSize 3 = .ok (.iload_n 1, 1) := dk_27 (dk_at dksJ11_checkFromIndexSize_0 3 rfl rfl)
theorem dJ11_checkFromIndexSize_4 : decode cJ11_checkFromIndexSize 4 = .ok (.ior, 1) := dk_128 (dk_at dksJ11_checkFromIndexSize_0 4 rfl rfl)
theorem dJ11_checkFromIndexSize_5 : decode cJ11_checkFromIndexSize 5 = .ok (.ifCond .lt 10, 3) := dk_155 0 10 (dk_at dksJ11_checkFromIndexSize_0 5 rfl rfl)
theorem dJ11_checkFromIndexSize_8 : decode cJ11_checkFromIndexSize 8 = .ok (.iload_n 1, 1) := dk_27 (dk_at dksJ11_checkFromIndexSize_0 8 rfl rfl)
theorem dJ11_checkFromIndexSize_9 : decode cJ11_checkFromIndexSize 9 = .ok (.iload_n 2, 1) := dk_28 (dk_at dksJ11_checkFromIndexSize_0 9 rfl rfl)
theorem dJ11_checkFromIndexSize_10 : decode cJ11_checkFromIndexSize 10 = .ok (.iload_n 0, 1) := dk_26 (dk_at dksJ11_checkFromIndexSize_0 10 rfl rfl)
theorem dJ11_checkFromIndexSize_11 : decode cJ11_checkFromIndexSize 11 = .ok (.isub, 1) := dk_100 (dk_at dksJ11_checkFromIndexSize_0 11 rfl rfl)
theorem dJ11_checkFromIndexSize_12 : decode cJ11_checkFromIndexSize 12 = .ok (.if_icmp .le 11, 3) := dk_164 0 11 (dk_at dksJ11_checkFromIndexSize_0 12 rfl rfl)
theorem dJ11_checkFromIndexSize_15 : decode cJ11_checkFromIndexSize 15 = .ok (.aload_n 3, 1) := dk_45 (dk_at dksJ11_checkFromIndexSize_0 15 rfl rfl)
theorem dJ11_checkFromIndexSize_16 : decode cJ11_checkFromIndexSize 16 = .ok (.iload_n 0, 1) := dk_26 (dk_at dksJ11_checkFromIndexSize_0 16 rfl rfl)
theorem dJ11_checkFromIndexSize_17 : decode cJ11_checkFromIndexSize 17 = .ok (.iload_n 1, 1) := dk_27 (dk_at dksJ11_checkFromIndexSize_0 17 rfl rfl)
theorem dJ11_checkFromIndexSize_18 : decode cJ11_checkFromIndexSize 18 = .ok (.iload_n 2, 1) := dk_28 (dk_at dksJ11_checkFromIndexSize_0 18 rfl rfl)
theorem dJ11_checkFromIndexSize_19 : decode cJ11_checkFromIndexSize 19 = .ok (.invokestatic 103, 3) := dk_184 0 103 (dk_at dksJ11_checkFromIndexSize_0 19 rfl rfl)
theorem dJ11_checkFromIndexSize_22 : decode cJ11_checkFromIndexSize 22 = .ok (.athrow, 1) := dk_191 (dk_at dksJ11_checkFromIndexSize_0 22 rfl rfl)
theorem dJ11_checkFromIndexSize_23 : decode cJ11_checkFromIndexSize 23 = .ok (.iload_n 0, 1) := dk_26 (dk_at dksJ11_checkFromIndexSize_0 23 rfl rfl)
theorem dJ11_checkFromIndexSize_24 : decode cJ11_checkFromIndexSize 24 = .ok (.ireturn, 1) := dk_172 (dk_at dksJ11_checkFromIndexSize_1 0 rfl rfl)
theorem q151 : (Jvm.Cond.initialized "jdk/internal/util/Preconditions") ∈ lw_all := lw_g (lw_at lw_m1 17 rfl) rfl
theorem q444 : (Jvm.Cond.static ({ cls := "jdk/internal/util/Preconditions", name := "checkIndex", desc := "(IILjava/util/function/BiFunction;)I" } : Jvm.MethodName)) ∈ lw_all := lw_g (lw_at lw_m2 70 rfl) rfl
theorem q445 : (Jvm.Cond.code ({ cls := "jdk/internal/util/Preconditions", name := "checkIndex", desc := "(IILjava/util/function/BiFunction;)I" } : Jvm.MethodName) prog_47_method_11_code (3 : Nat) (Option.some Jvm.ClassFile.FieldType.int)) ∈ lw_all := lw_g (lw_at lw_m2 71 rfl) rfl
theorem q571 : (Jvm.Cond.laysStatic "jdk/internal/util/Preconditions" "SIOOBE_FORMATTER" "Ljava/util/function/BiFunction;") ∈ lw_tbl := lw_at lw_m2 197 rfl
theorem q900 : (Jvm.Cond.static ({ cls := "jdk/internal/util/Preconditions", name := "checkFromToIndex", desc := "(IIILjava/util/function/BiFunction;)I" } : Jvm.MethodName)) ∈ lw_all := lw_g (lw_at lw_m4 46 rfl) rfl
theorem q901 : (Jvm.Cond.code ({ cls := "jdk/internal/util/Preconditions", name := "checkFromToIndex", desc := "(IIILjava/util/function/BiFunction;)I" } : Jvm.MethodName) prog_47_method_12_code (4 : Nat) (Option.some Jvm.ClassFile.FieldType.int)) ∈ lw_all := lw_g (lw_at lw_m4 47 rfl) rfl
theorem q1143 : (Jvm.Cond.static ({ cls := "jdk/internal/util/Preconditions", name := "checkFromIndexSize", desc := "(IIILjava/util/function/BiFunction;)I" } : Jvm.MethodName)) ∈ lw_all := lw_g (lw_at lw_m5 49 rfl) rfl
theorem q1144 : (Jvm.Cond.code ({ cls := "jdk/internal/util/Preconditions", name := "checkFromIndexSize", desc := "(IIILjava/util/function/BiFunction;)I" } : Jvm.MethodName) prog_47_method_13_code (4 : Nat) (Option.some Jvm.ClassFile.FieldType.int)) ∈ lw_all := lw_g (lw_at lw_m5 50 rfl) rfl

/-! java/lang/Character -/
set_option maxRecDepth 100000
def RJ12 : String := "java/lang/Character"
abbrev cJ12_isValidCodePoint : ByteArray := prog_17_method_11_code
def yJ12_isValidCodePoint : MethodName := ⟨RJ12, "isValidCodePoint", "(I)Z"⟩
def dkwJ12_isValidCodePoint_0 : List UInt8 := [26, 16, 16, 124, 60, 27, 16, 17, 162, 0, 7, 4, 167, 0, 4, 3, 172]
abbrev dktJ12_isValidCodePoint_0 : List UInt8 := dkwJ12_isValidCodePoint_0 ++ []
theorem dksJ12_isValidCodePoint_0 : cJ12_isValidCodePoint.data.toList.drop 0 = dktJ12_isValidCodePoint_0 := by decide +kernel
theorem dJ12_isValidCodePoint_0 : decode cJ12_isValidCodePoint 0 = .ok (.iload_n 0, 1) := dk_26 (dk_at dksJ12_isValidCodePoint_0 0 rfl rfl)
theorem dJ12_isValidCodePoint_1 : decode cJ12_isValidCodePoint 1 = .ok (.bipush 16, 2) := dk_16 16 (dk_at dksJ12_isValidCodePoint_0 1 rfl rfl)
theorem dJ12_isValidCodePoint_3 : decode cJ12_isValidCodePoint 3 = .ok (.iushr, 1) := dk_124 (dk_at dksJ12_isValidCodePoint_0 3 rfl rfl)
theorem dJ12_isValidCodePoint_4 : decode cJ12_isValidCodePoint 4 = .ok (.istore_n 1, 1) := dk_60 (dk_at dksJ12_isValidCodePoint_0 4 rfl rfl)
theorem dJ12_isValidCodePoint_5 : decode cJ12_isValidCodePoint 5 = .ok (.iload_n 1, 1) := dk_27 (dk_at dksJ12_isValidCodePoint_0 5 rfl rfl)
theorem dJ12_isValidCodePoint_6 : decode cJ12_isValidCodePoint 6 = .ok (.bipush 17, 2) := dk_16 17 (dk_at dksJ12_isValidCodePoint_0 6 rfl rfl)
theorem dJ12_isValidCodePoint_8 : decode cJ12_isValidCodePoint 8 = .ok (.if_icmp .ge 7, 3) := dk_162 0 7 (dk_at dksJ12_isValidCodePoint_0 8 rfl rfl)
theorem dJ12_isValidCodePoint_11 : decode cJ12_isValidCodePoint 11 = .ok (.iconst 1, 1) := dk_4 (dk_at dksJ12_isValidCodePoint_0 11 rfl rfl)
theorem dJ12_isValidCodePoint_12 : decode cJ12_isValidCodePoint 12 = .ok (.goto 4, 3) := dk_167 0 4 (dk_at dksJ12_isValidCodePoint_0 12 rfl rfl)
theorem dJ12_isValidCodePoint_15 : decode cJ12_isValidCodePoint 15 = .ok (.iconst 0, 1) := dk_3 (dk_at dksJ12_isValidCodePoint_0 15 rfl rfl)
theorem dJ12_isValidCodePoint_16 : decode cJ12_isValidCodePoint 16 = .ok (.ireturn, 1) := dk_172 (dk_at dksJ12_isValidCodePoint_0 16 rfl rfl)
abbrev cJ12_highSurrogate : ByteArray := prog_17_method_28_code
def yJ12_highSurrogate : MethodName := ⟨RJ12, "highSurrogate", "(I)C"⟩
def dkwJ12_highSurrogate_0 : List UInt8 := [26, 16, 10, 124, 18, 110, 96, 146, 172]
abbrev dktJ12_highSurrogate_0 : List UInt8 := dkwJ12_highSurrogate_0 ++ []
theorem dksJ12_highSurrogate_0 : cJ12_highSurrogate.data.toList.drop 0 = dktJ12_highSurrogate_0 := by decide +kernel
theorem dJ12_highSurrogate_0 : decode cJ12_highSurrogate 0 = .ok (.iload_n 0, 1) := dk_26 (dk_at dksJ12_highSurrogate_0 0 rfl rfl)
theorem dJ12_highSurrogate_1 : decode cJ12_highSurrogate 1 = .ok (.bipush 10, 2) := dk_16 10 (dk_at dksJ12_highSurrogate_0 1 rfl rfl)
theorem dJ12_highSurrogate_3 : decode cJ12_highSurrogate 3 = .ok (.iushr, 1) := dk_124 (dk_at dksJ12_highSurrogate_0 3 rfl rfl)
theorem dJ12_highSurrogate_4 : decode cJ12_highSurrogate 4 = .ok (.ldc 110, 2) := dk_18 110 (dk_at dksJ12_highSurrogate_0 4 rfl rfl)
theorem dJ12_highSurrogate_6 : decode cJ12_highSurrogate 6 = .ok (.iadd, 1) := dk_96 (dk_at dksJ12_highSurrogate_0 6 rfl rfl)
theorem dJ12_highSurrogate_7 : decode cJ12_highSurrogate 7 = .ok (.i2c, 1) := dk_146 (dk_at dksJ12_highSurrogate_0 7 rfl rfl)
theorem dJ12_highSurrogate_8 : decode cJ12_highSurrogate 8 = .ok (.ireturn, 1) := dk_172 (dk_at dksJ12_highSurrogate_0 8 rfl rfl)
abbrev cJ12_lowSurrogate : ByteArray := prog_17_method_29_code
def yJ12_lowSurrogate : MethodName := ⟨RJ12, "lowSurrogate", "(I)C"⟩
def dkwJ12_lowSurrogate_0 : List UInt8 := [26, 17, 3, 255, 126, 18, 76, 96, 146, 172]
abbrev dktJ12_lowSurrogate_0 : List UInt8 := dkwJ12_lowSurrogate_0 ++ []
theorem dksJ12_lowSurrogate_0 : cJ12_lowSurrogate.data.toList.drop 0 = dktJ12_lowSurrogate_0 := by decide +kernel
theorem dJ12_lowSurrogate_0 : decode cJ12_lowSurrogate 0 = .ok (.iload_n 0, 1) := dk_26 (dk_at dksJ12_lowSurrogate_0 0 rfl rfl)
theorem dJ12_lowSurrogate_1 : decode cJ12_lowSurrogate 1 = .ok (.sipush 1023, 3) := dk_17 3 255 (dk_at dksJ12_lowSurrogate_0 1 rfl rfl)
theorem dJ12_lowSurrogate_4 : decode cJ12_lowSurrogate 4 = .ok (.iand, 1) := dk_126 (dk_at dksJ12_lowSurrogate_0 4 rfl rfl)
theorem dJ12_lowSurrogate_5 : decode cJ12_lowSurrogate 5 = .ok (.ldc 76, 2) := dk_18 76 (dk_at dksJ12_lowSurrogate_0 5 rfl rfl)
theorem dJ12_lowSurrogate_7 : decode cJ12_lowSurrogate 7 = .ok (.iadd, 1) := dk_96 (dk_at dksJ12_lowSurrogate_0 7 rfl rfl)
theorem dJ12_lowSurrogate_8 : decode cJ12_lowSurrogate 8 = .ok (.i2c, 1) := dk_146 (dk_at dksJ12_lowSurrogate_0 8 rfl rfl)
theorem dJ12_lowSurrogate_9 : decode cJ12_lowSurrogate 9 = .ok (.ireturn, 1) := dk_172 (dk_at dksJ12_lowSurrogate_0 9 rfl rfl)
theorem q152 : (Jvm.Cond.initialized "java/lang/Character") ∈ lw_all := lw_g (lw_at lw_m1 18 rfl) rfl
theorem q910 : (Jvm.Cond.static ({ cls := "java/lang/Character", name := "isValidCodePoint", desc := "(I)Z" } : Jvm.MethodName)) ∈ lw_all := lw_g (lw_at lw_m4 56 rfl) rfl
theorem q911 : (Jvm.Cond.code ({ cls := "java/lang/Character", name := "isValidCodePoint", desc := "(I)Z" } : Jvm.MethodName) prog_17_method_11_code (2 : Nat) (Option.some Jvm.ClassFile.FieldType.boolean)) ∈ lw_all := lw_g (lw_at lw_m4 57 rfl) rfl
theorem q913 : (Jvm.Cond.static ({ cls := "java/lang/Character", name := "highSurrogate", desc := "(I)C" } : Jvm.MethodName)) ∈ lw_all := lw_g (lw_at lw_m4 59 rfl) rfl
theorem q914 : (Jvm.Cond.code ({ cls := "java/lang/Character", name := "highSurrogate", desc := "(I)C" } : Jvm.MethodName) prog_17_method_28_code (1 : Nat) (Option.some Jvm.ClassFile.FieldType.char)) ∈ lw_all := lw_g (lw_at lw_m4 60 rfl) rfl
theorem q915 : (Jvm.Cond.constant "java/lang/Character" (110 : Nat) (55232 : Int32)) ∈ lw_all := lw_g (lw_at lw_m4 61 rfl) rfl
theorem q917 : (Jvm.Cond.static ({ cls := "java/lang/Character", name := "lowSurrogate", desc := "(I)C" } : Jvm.MethodName)) ∈ lw_all := lw_g (lw_at lw_m4 63 rfl) rfl
theorem q918 : (Jvm.Cond.code ({ cls := "java/lang/Character", name := "lowSurrogate", desc := "(I)C" } : Jvm.MethodName) prog_17_method_29_code (1 : Nat) (Option.some Jvm.ClassFile.FieldType.char)) ∈ lw_all := lw_g (lw_at lw_m4 64 rfl) rfl
theorem q919 : (Jvm.Cond.constant "java/lang/Character" (76 : Nat) (56320 : Int32)) ∈ lw_all := lw_g (lw_at lw_m4 65 rfl) rfl

/-! java/lang/AbstractStringBuilder -/
set_option maxRecDepth 100000
def RJ13 : String := "java/lang/AbstractStringBuilder"
abbrev cJ13_charAt : ByteArray := prog_14_method_14_code
def yJ13_charAt : MethodName := ⟨RJ13, "charAt", "(I)C"⟩
def dkwJ13_charAt_1 : List UInt8 := [21, 4, 184, 0, 144, 28, 154, 0, 12, 45, 27, 51, 17, 0, 255, 126, 146, 172, 45, 27, 184, 0, 148, 172]
abbrev dktJ13_charAt_1 : List UInt8 := dkwJ13_charAt_1 ++ []
def dkwJ13_charAt_0 : List UInt8 := [42, 180, 0, 22, 61, 42, 180, 0, 15, 78, 42, 180, 0, 79, 45, 190, 28, 122, 184, 0, 138, 54, 4, 27]
abbrev dktJ13_charAt_0 : List UInt8 := dkwJ13_charAt_0 ++ dktJ13_charAt_1
theorem dksJ13_charAt_0 : cJ13_charAt.data.toList.drop 0 = dktJ13_charAt_0 := by decide +kernel
theorem dksJ13_charAt_1 : cJ13_charAt.data.toList.drop 24 = dktJ13_charAt_1 := dk_seg dksJ13_charAt_0 24 rfl rfl
theorem dJ13_charAt_0 : decode cJ13_charAt 0 = .ok (.aload_n 0, 1) := dk_42 (dk_at dksJ13_charAt_0 0 rfl rfl)
theorem dJ13_charAt_1 : decode cJ13_charAt 1 = .ok (.getfield 22, 3) := dk_180 0 22 (dk_at dksJ13_charAt_0 1 rfl rfl)
theorem dJ13_charAt_4 : decode cJ13_charAt 4 = .ok (.istore_n 2, 1) := dk_61 (dk_at dksJ13_charAt_0 4 rfl rfl)
theorem dJ13_charAt_5 : decode cJ13_charAt 5 = .ok (.aload_n 0, 1) := dk_42 (dk_at dksJ13_charAt_0 5 rfl rfl)
theorem dJ13_charAt_6 : decode cJ13_charAt 6 = .ok (.getfield 15, 3) := dk_180 0 15 (dk_at dksJ13_charAt_0 6 rfl rfl)
theorem dJ13_charAt_9 : decode cJ13_charAt 9 = .ok (.astore_n 3, 1) := dk_78 (dk_at dksJ13_charAt_0 9 rfl rfl)
theorem dJ13_charAt_10 : decode cJ13_charAt 10 = .ok (.aload_n 0, 1) := dk_42 (dk_at dksJ13_charAt_0 10 rfl rfl)
theorem dJ13_charAt_11 : decode cJ13_charAt 11 = .ok (.getfield 79, 3) := dk_180 0 79 (dk_at dksJ13_charAt_0 11 rfl rfl)
theorem dJ13_charAt_14 : decode cJ13_charAt 14 = .ok (.aload_n 3, 1) := dk_45 (dk_at dksJ13_charAt_0 14 rfl rfl)
theorem dJ13_charAt_15 : decode cJ13_charAt 15 = .ok (.arraylength, 1) := dk_190 (dk_at dksJ13_charAt_0 15 rfl rfl)
theorem dJ13_charAt_16 : decode cJ13_charAt 16 = .ok (.iload_n 2, 1) := dk_28 (dk_at dksJ13_charAt_0 16 rfl rfl)
theorem dJ13_charAt_17 : decode cJ13_charAt 17 = .ok (.ishr, 1) := dk_122 (dk_at dksJ13_charAt_0 17 rfl rfl)
theorem dJ13_charAt_18 : decode cJ13_charAt 18 = .ok (.invokestatic 138, 3) := dk_184 0 138 (dk_at dksJ13_charAt_0 18 rfl rfl)
theorem dJ13_charAt_21 : decode cJ13_charAt 21 = .ok (.istore 4, 2) := dk_54 4 (dk_at dksJ13_charAt_0 21 rfl rfl)
theorem dJ13_charAt_23 : decode cJ13_charAt 23 = .ok (.iload_n 1, 1) := dk_27 (dk_at dksJ13_charAt_0 23 rfl rfl)
theorem dJ13_charAt_24 : decode cJ13_charAt 24 = .ok (.iload 4, 2) := dk_21 4 (dk_at dksJ13_charAt_1 0 rfl rfl)
theorem dJ13_charAt_26 : decode cJ13_charAt 26 = .ok (.invokestatic 144, 3) := dk_184 0 144 (dk_at dksJ13_charAt_1 2 rfl rfl)
theorem dJ13_charAt_29 : decode cJ13_charAt 29 = .ok (.iload_n 2, 1) := dk_28 (dk_at dksJ13_charAt_1 5 rfl rfl)
theorem dJ13_charAt_30 : decode cJ13_charAt 30 = .ok (.ifCond .ne 12, 3) := dk_154 0 12 (dk_at dksJ13_charAt_1 6 rfl rfl)
theorem dJ13_charAt_33 : decode cJ13_charAt 33 = .ok (.aload_n 3, 1) := dk_45 (dk_at dksJ13_charAt_1 9 rfl rfl)
theorem dJ13_charAt_34 : decode cJ13_charAt 34 = .ok (.iload_n 1, 1) := dk_27 (dk_at dksJ13_charAt_1 10 rfl rfl)
theorem dJ13_charAt_35 : decode cJ13_charAt 35 = .ok (.baload, 1) := dk_51 (dk_at dksJ13_charAt_1 11 rfl rfl)
theorem dJ13_charAt_36 : decode cJ13_charAt 36 = .ok (.sipush 255, 3) := dk_17 0 255 (dk_at dksJ13_charAt_1 12 rfl rfl)
theorem dJ13_charAt_39 : decode cJ13_charAt 39 = .ok (.iand, 1) := dk_126 (dk_at dksJ13_charAt_1 15 rfl rfl)
theorem dJ13_charAt_40 : decode cJ13_charAt 40 = .ok (.i2c, 1) := dk_146 (dk_at dksJ13_charAt_1 16 rfl rfl)
theorem dJ13_charAt_41 : decode cJ13_charAt 41 = .ok (.ireturn, 1) := dk_172 (dk_at dksJ13_charAt_1 17 rfl rfl)
theorem dJ13_charAt_42 : decode cJ13_charAt 42 = .ok (.aload_n 3, 1) := dk_45 (dk_at dksJ13_charAt_1 18 rfl rfl)
theorem dJ13_charAt_43 : decode cJ13_charAt 43 = .ok (.iload_n 1, 1) := dk_27 (dk_at dksJ13_charAt_1 19 rfl rfl)
theorem dJ13_charAt_44 : decode cJ13_charAt 44 = .ok (.invokestatic 148, 3) := dk_184 0 148 (dk_at dksJ13_charAt_1 20 rfl rfl)
theorem dJ13_charAt_47 : decode cJ13_charAt 47 = .ok (.ireturn, 1) := dk_172 (dk_at dksJ13_charAt_1 23 rfl rfl)
abbrev cJ13_init : ByteArray := prog_14_method_2_code
def yJ13_init : MethodName := ⟨RJ13, "<init>", "(I)V"⟩
def dkwJ13_init_1 : List UInt8 := [167, 0, 16, 42, 27, 184, 0, 26, 181, 0, 15, 42, 4, 181, 0, 22, 177]
abbrev dktJ13_init_1 : List UInt8 := dkwJ13_init_1 ++ []
def dkwJ13_init_0 : List UInt8 := [42, 183, 0, 3, 178, 0, 18, 153, 0, 18, 42, 27, 188, 8, 181, 0, 15, 42, 3, 181, 0, 22]
abbrev dktJ13_init_0 : List UInt8 := dkwJ13_init_0 ++ dktJ13_init_1
theorem dksJ13_init_0 : cJ13_init.data.toList.drop 0 = dktJ13_init_0 := by decide +kernel
theorem dksJ13_init_1 : cJ13_init.data.toList.drop 22 = dktJ13_init_1 := dk_seg dksJ13_init_0 22 rfl rfl
theorem dJ13_init_0 : decode cJ13_init 0 = .ok (.aload_n 0, 1) := dk_42 (dk_at dksJ13_init_0 0 rfl rfl)
theorem dJ13_init_1 : decode cJ13_init 1 = .ok (.invokespecial 3, 3) := dk_183 0 3 (dk_at dksJ13_init_0 1 rfl rfl)
theorem dJ13_init_4 : decode cJ13_init 4 = .ok (.getstatic 18, 3) := dk_178 0 18 (dk_at dksJ13_init_0 4 rfl rfl)
theorem dJ13_init_7 : decode cJ13_init 7 = .ok (.ifCond .eq 18, 3) := dk_153 0 18 (dk_at dksJ13_init_0 7 rfl rfl)
theorem dJ13_init_10 : decode cJ13_init 10 = .ok (.aload_n 0, 1) := dk_42 (dk_at dksJ13_init_0 10 rfl rfl)
theorem dJ13_init_11 : decode cJ13_init 11 = .ok (.iload_n 1, 1) := dk_27 (dk_at dksJ13_init_0 11 rfl rfl)
theorem dJ13_init_12 : decode cJ13_init 12 = .ok (.newarray .byte, 2) := dk_188_8 (dk_at dksJ13_init_0 12 rfl rfl)
theorem dJ13_init_14 : decode cJ13_init 14 = .ok (.putfield 15, 3) := dk_181 0 15 (dk_at dksJ13_init_0 14 rfl rfl)
theorem dJ13_init_17 : decode cJ13_init 17 = .ok (.aload_n 0, 1) := dk_42 (dk_at dksJ13_init_0 17 rfl rfl)
theorem dJ13_init_18 : decode cJ13_init 18 = .ok (.iconst 0, 1) := dk_3 (dk_at dksJ13_init_0 18 rfl rfl)
theorem dJ13_init_19 : decode cJ13_init 19 = .ok (.putfield 22, 3) := dk_181 0 22 (dk_at dksJ13_init_0 19 rfl rfl)
theorem dJ13_init_22 : decode cJ13_init 22 = .ok (.goto 16, 3) := dk_167 0 16 (dk_at dksJ13_init_1 0 rfl rfl)
theorem dJ13_init_25 : decode cJ13_init 25 = .ok (.aload_n 0, 1) := dk_42 (dk_at dksJ13_init_1 3 rfl rfl)
theorem dJ13_init_26 : decode cJ13_init 26 = .ok (.iload_n 1, 1) := dk_27 (dk_at dksJ13_init_1 4 rfl rfl)
theorem dJ13_init_27 : decode cJ13_init 27 = .ok (.invokestatic 26, 3) := dk_184 0 26 (dk_at dksJ13_init_1 5 rfl rfl)
theorem dJ13_init_30 : decode cJ13_init 30 = .ok (.putfield 15, 3) := dk_181 0 15 (dk_at dksJ13_init_1 8 rfl rfl)
theorem dJ13_init_33 : decode cJ13_init 33 = .ok (.aload_n 0, 1) := dk_42 (dk_at dksJ13_init_1 11 rfl rfl)
theorem dJ13_init_34 : decode cJ13_init 34 = .ok (.iconst 1, 1) := dk_4 (dk_at dksJ13_init_1 12 rfl rfl)
theorem dJ13_init_35 : decode cJ13_init 35 = .ok (.putfield 22, 3) := dk_181 0 22 (dk_at dksJ13_init_1 13 rfl rfl)
theorem dJ13_init_38 : decode cJ13_init 38 = .ok (.return_, 1) := dk_177 (dk_at dksJ13_init_1 16 rfl rfl)
abbrev cJ13_append : ByteArray := prog_14_method_31_code
def yJ13_append : MethodName := ⟨RJ13, "append", "(C)Ljava/lang/AbstractStringBuilder;"⟩
def dkwJ13_append_3 : List UInt8 := [181, 0, 79, 27, 184, 0, 197, 42, 176]
abbrev dktJ13_append_3 : List UInt8 := dkwJ13_append_3 ++ []
def dkwJ13_append_2 : List UInt8 := [182, 0, 83, 153, 0, 7, 42, 182, 0, 195, 42, 180, 0, 15, 42, 89, 180, 0, 79, 90, 4, 96]
abbrev dktJ13_append_2 : List UInt8 := dkwJ13_append_2 ++ dktJ13_append_3
def dkwJ13_append_1 : List UInt8 := [42, 180, 0, 15, 42, 89, 180, 0, 79, 90, 4, 96, 181, 0, 79, 27, 145, 84, 167, 0, 33, 42]
abbrev dktJ13_append_1 : List UInt8 := dkwJ13_append_1 ++ dktJ13_append_2
def dkwJ13_append_0 : List UInt8 := [42, 42, 180, 0, 79, 4, 96, 182, 0, 100, 42, 182, 0, 83, 153, 0, 31, 27, 184, 0, 191, 153, 0, 24]
abbrev dktJ13_append_0 : List UInt8 := dkwJ13_append_0 ++ dktJ13_append_1
theorem dksJ13_append_0 : cJ13_append.data.toList.drop 0 = dktJ13_append_0 := by decide +kernel
theorem dksJ13_append_1 : cJ13_append.data.toList.drop 24 = dktJ13_append_1 := dk_seg dksJ13_append_0 24 rfl rfl
theorem dksJ13_append_2 : cJ13_append.data.toList.drop 46 = dktJ13_append_2 := dk_seg dksJ13_append_1 22 rfl rfl
theorem dksJ13_append_3 : cJ13_append.data.toList.drop 68 = dktJ13_append_3 := dk_seg dksJ13_append_2 22 rfl rfl
theorem dJ13_append_0 : decode cJ13_append 0 = .ok (.aload_n 0, 1) := dk_42 (dk_at dksJ13_append_0 0 rfl rfl)
theorem dJ13_append_1 : decode cJ13_append 1 = .ok (.aload_n 0, 1) := dk_42 (dk_at dksJ13_append_0 1 rfl rfl)
theorem dJ13_append_2 : decode cJ13_append 2 = .ok (.getfield 79, 3) := dk_180 0 79 (dk_at dksJ13_append_0 2 rfl rfl)
theorem dJ13_append_5 : decode cJ13_append 5 = .ok (.iconst 1, 1) := dk_4 (dk_at dksJ13_append_0 5 rfl rfl)
theorem dJ13_append_6 : decode cJ13_append 6 = .ok (.iadd, 1) := dk_96 (dk_at dksJ13_append_0 6 rfl rfl)
theorem dJ13_append_7 : decode cJ13_append 7 = .ok (.invokevirtual 100, 3) := dk_182 0 100 (dk_at dksJ13_append_0 7 rfl rfl)
theorem dJ13_append_10 : decode cJ13_append 10 = .ok (.aload_n 0, 1) := dk_42 (dk_at dksJ13_append_0 10 rfl rfl)
theorem dJ13_append_11 : decode cJ13_append 11 = .ok (.invokevirtual 83, 3) := dk_182 0 83 (dk_at dksJ13_append_0 11 rfl rfl)
theorem dJ13_append_14 : decode cJ13_append 14 = .ok (.ifCond .eq 31, 3) := dk_153 0 31 (dk_at dksJ13_append_0 14 rfl rfl)
theorem dJ13_append_17 : decode cJ13_append 17 = .ok (.iload_n 1, 1) := dk_27 (dk_at dksJ13_append_0 17 rfl rfl)
theorem dJ13_append_18 : decode cJ13_append 18 = .ok (.invokestatic 191, 3) := dk_184 0 191 (dk_at dksJ13_append_0 18 rfl rfl)
theorem dJ13_append_21 : decode cJ13_append 21 = .ok (.ifCond .eq 24, 3) := dk_153 0 24 (dk_at dksJ13_append_0 21 rfl rfl)
theorem dJ13_append_24 : decode cJ13_append 24 = .ok (.aload_n 0, 1) := dk_42 (dk_at dksJ13_append_1 0 rfl rfl)
theorem dJ13_append_25 : decode cJ13_append 25 = .ok (.getfield 15, 3) := dk_180 0 15 (dk_at dksJ13_append_1 1 rfl rfl)
theorem dJ13_append_28 : decode cJ13_append 28 = .ok (.aload_n 0, 1) := dk_42 (dk_at dksJ13_append_1 4 rfl rfl)
theorem dJ13_append_29 : decode cJ13_append 29 = .ok (.dup, 1) := dk_89 (dk_at dksJ13_append_1 5 rfl rfl)
theorem dJ13_append_30 : decode cJ13_append 30 = .ok (.getfield 79, 3) := dk_180 0 79 (dk_at dksJ13_append_1 6 rfl rfl)
theorem dJ13_append_33 : decode cJ13_append 33 = .ok (.dup_x1, 1) := dk_90 (dk_at dksJ13_append_1 9 rfl rfl)
theorem dJ13_append_34 : decode cJ13_append 34 = .ok (.iconst 1, 1) := dk_4 (dk_at dksJ13_append_1 10 rfl rfl)
theorem dJ13_append_35 : decode cJ13_append 35 = .ok (.iadd, 1) := dk_96 (dk_at dksJ13_append_1 11 rfl rfl)
theorem dJ13_append_36 : decode cJ13_append 36 = .ok (.putfield 79, 3) := dk_181 0 79 (dk_at dksJ13_append_1 12 rfl rfl)
theorem dJ13_append_39 : decode cJ13_append 39 = .ok (.iload_n 1, 1) := dk_27 (dk_at dksJ13_append_1 15 rfl rfl)
theorem dJ13_append_40 : decode cJ13_append 40 = .ok (.i2b, 1) := dk_145 (dk_at dksJ13_append_1 16 rfl rfl)
theorem dJ13_append_41 : decode cJ13_append 41 = .ok (.bastore, 1) := dk_84 (dk_at dksJ13_append_1 17 rfl rfl)
theorem dJ13_append_42 : decode cJ13_append 42 = .ok (.goto 33, 3) := dk_167 0 33 (dk_at dksJ13_append_1 18 rfl rfl)
theorem dJ13_append_45 : decode cJ13_append 45 = .ok (.aload_n 0, 1) := dk_42 (dk_at dksJ13_append_1 21 rfl rfl)
theorem dJ13_append_46 : decode cJ13_append 46 = .ok (.invokevirtual 83, 3) := dk_182 0 83 (dk_at dksJ13_append_2 0 rfl rfl)
theorem dJ13_append_49 : decode cJ13_append 49 = .ok (.ifCond .eq 7, 3) := dk_153 0 7 (dk_at dksJ13_append_2 3 rfl rfl)
theorem dJ13_append_52 : decode cJ13_append 52 = .ok (.aload_n 0, 1) := dk_42 (dk_at dksJ13_append_2 6 rfl rfl)
theorem dJ13_append_53 : decode cJ13_append 53 = .ok (.invokevirtual 195, 3) := dk_182 0 195 (dk_at dksJ13_append_2 7 rfl rfl)
theorem dJ13_append_56 : decode cJ13_append 56 = .ok (.aload_n 0, 1) := dk_42 (dk_at dksJ13_append_2 10 rfl rfl)
theorem dJ13_append_57 : decode cJ13_append 57 = .ok (.getfield 15, 3) := dk_180 0 15 (dk_at dksJ13_append_2 11 rfl rfl)
theorem dJ13_append_60 : decode cJ13_append 60 = .ok (.aload_n 0, 1) := dk_42 (dk_at dksJ13_append_2 14 rfl rfl)
theorem dJ13_append_61 : decode cJ13_append 61 = .ok (.dup, 1) := dk_89 (dk_at dksJ13_append_2 15 rfl rfl)
theorem dJ13_append_62 : decode cJ13_append 62 = .ok (.getfield 79, 3) := dk_180 0 79 (dk_at dksJ13_append_2 16 rfl rfl)
theorem dJ13_append_65 : decode cJ13_append 65 = .ok (.dup_x1, 1) := dk_90 (dk_at dksJ13_append_2 19 rfl rfl)
theorem dJ13_append_66 : decode cJ13_append 66 = .ok (.iconst 1, 1) := dk_4 (dk_at dksJ13_append_2 20 rfl rfl)
theorem dJ13_append_67 : decode cJ13_append 67 = .ok (.iadd, 1) := dk_96 (dk_at dksJ13_append_2 21 rfl rfl)
theorem dJ13_append_68 : decode cJ13_append 68 = .ok (.putfield 79, 3) := dk_181 0 79 (dk_at dksJ13_append_3 0 rfl rfl)
theorem dJ13_append_71 : decode cJ13_append 71 = .ok (.iload_n 1, 1) := dk_27 (dk_at dksJ13_append_3 3 rfl rfl)
theorem dJ13_append_72 : decode cJ13_append 72 = .ok (.invokestatic 197, 3) := dk_184 0 197 (dk_at dksJ13_append_3 4 rfl rfl)
theorem dJ13_append_75 : decode cJ13_append 75 = .ok (.aload_n 0, 1) := dk_42 (dk_at dksJ13_append_3 7 rfl rfl)
theorem dJ13_append_76 : decode cJ13_append 76 = .ok (.areturn, 1) := dk_176 (dk_at dksJ13_append_3 8 rfl rfl)
abbrev cJ13_ensureCapacityInternal : ByteArray := prog_14_method_9_code
def yJ13_ensureCapacityInternal : MethodName := ⟨RJ13, "ensureCapacityInternal", "(I)V"⟩
def dkwJ13_ensureCapacityInternal_1 : List UInt8 := [182, 0, 104, 42, 180, 0, 22, 120, 184, 0, 108, 181, 0, 15, 177]
abbrev dktJ13_ensureCapacityInternal_1 : List UInt8 := dkwJ13_ensureCapacityInternal_1 ++ []
def dkwJ13_ensureCapacityInternal_0 : List UInt8 := [42, 180, 0, 15, 190, 42, 180, 0, 22, 122, 61, 27, 28, 100, 158, 0, 24, 42, 42, 180, 0, 15, 42, 27]
abbrev dktJ13_ensureCapacityInternal_0 : List UInt8 := dkwJ13_ensureCapacityInternal_0 ++ dktJ13_ensureCapacityInternal_1
theorem dksJ13_ensureCapacityInternal_0 : cJ13_ensureCapacityInternal.data.toList.drop 0 = dktJ13_ensureCapacityInternal_0 := by decide +kernel
theorem dksJ13_ensureCapacityInternal_1 : cJ13_ensureCapacityInternal.data.toList.drop 24 = dktJ13_ensureCapacityInternal_1 := dk_seg dksJ13_ensureCapacityInternal_0 24 rfl rfl
theorem dJ13_ensureCapacityInternal_0 : decode cJ13_ensureCapacityInternal 0 = .ok (.aload_n 0, 1) := dk_42 (dk_at dksJ13_ensureCapacityInternal_0 0 rfl rfl)
theorem dJ13_ensureCapacityInternal_1 : decode cJ13_ensureCapacityInternal 1 = .ok (.getfield 15, 3) := dk_180 0 15 (dk_at dksJ13_ensureCapacityInternal_0 1 rfl rfl)
theorem dJ13_ensureCapacityInternal_4 : decode cJ13_ensureCapacityInternal 4 = .ok (.arraylength, 1) := dk_190 (dk_at dksJ13_ensureCapacityInternal_0 4 rfl rfl)
theorem dJ13_ensureCapacityInternal_5 : decode cJ13_ensureCapacityInternal 5 = .ok (.aload_n 0, 1) := dk_42 (dk_at dksJ13_ensureCapacityInternal_0 5 rfl rfl)
theorem dJ13_ensureCapacityInternal_6 : decode cJ13_ensureCapacityInternal 6 = .ok (.getfield 22, 3) := dk_180 0 22 (dk_at dksJ13_ensureCapacityInternal_0 6 rfl rfl)
theorem dJ13_ensureCapacityInternal_9 : decode cJ13_ensureCapacityInternal 9 = .ok (.ishr, 1) := dk_122 (dk_at dksJ13_ensureCapacityInternal_0 9 rfl rfl)
theorem dJ13_ensureCapacityInternal_10 : decode cJ13_ensureCapacityInternal 10 = .ok (.istore_n 2, 1) := dk_61 (dk_at dksJ13_ensureCapacityInternal_0 10 rfl rfl)
theorem dJ13_ensureCapacityInternal_11 : decode cJ13_ensureCapacityInternal 11 = .ok (.iload_n 1, 1) := dk_27 (dk_at dksJ13_ensureCapacityInternal_0 11 rfl rfl)
theorem dJ13_ensureCapacityInternal_12 : decode cJ13_ensureCapacityInternal 12 = .ok (.iload_n 2, 1) := dk_28 (dk_at dksJ13_ensureCapacityInternal_0 12 rfl rfl)
theorem dJ13_ensureCapacityInternal_13 : decode cJ13_ensureCapacityInternal 13 = .ok (.isub, 1) := dk_100 (dk_at dksJ13_ensureCapacityInternal_0 13 rfl rfl)
theorem dJ13_ensureCapacityInternal_14 : decode cJ13_ensureCapacityInternal 14 = .ok (.ifCond .le 24, 3) := dk_158 0 24 (dk_at dksJ13_ensureCapacityInternal_0 14 rfl rfl)
theorem dJ13_ensureCapacityInternal_17 : decode cJ13_ensureCapacityInternal 17 = .ok (.aload_n 0, 1) := dk_42 (dk_at dksJ13_ensureCapacityInternal_0 17 rfl rfl)
theorem dJ13_ensureCapacityInternal_18 : decode cJ13_ensureCapacityInternal 18 = .ok (.aload_n 0, 1) := dk_42 (dk_at dksJ13_ensureCapacityInternal_0 18 rfl rfl)
theorem dJ13_ensureCapacityInternal_19 : decode cJ13_ensureCapacityInternal 19 = .ok (.getfield 15, 3) := dk_180 0 15 (dk_at dksJ13_ensureCapacityInternal_0 19 rfl rfl)
theorem dJ13_ensureCapacityInternal_22 : decode cJ13_ensureCapacityInternal 22 = .ok (.aload_n 0, 1) := dk_42 (dk_at dksJ13_ensureCapacityInternal_0 22 rfl rfl)
theorem dJ13_ensureCapacityInternal_23 : decode cJ13_ensureCapacityInternal 23 = .ok (.iload_n 1, 1) := dk_27 (dk_at dksJ13_ensureCapacityInternal_0 23 rfl rfl)
theorem dJ13_ensureCapacityInternal_24 : decode cJ13_ensureCapacityInternal 24 = .ok (.invokevirtual 104, 3) := dk_182 0 104 (dk_at dksJ13_ensureCapacityInternal_1 0 rfl rfl)
theorem dJ13_ensureCapacityInternal_27 : decode cJ13_ensureCapacityInternal 27 = .ok (.aload_n 0, 1) := dk_42 (dk_at dksJ13_ensureCapacityInternal_1 3 rfl rfl)
theorem dJ13_ensureCapacityInternal_28 : decode cJ13_ensureCapacityInternal 28 = .ok (.getfield 22, 3) := dk_180 0 22 (dk_at dksJ13_ensureCapacityInternal_1 4 rfl rfl)
theorem dJ13_ensureCapacityInternal_31 : decode cJ13_ensureCapacityInternal 31 = .ok (.ishl, 1) := dk_120 (dk_at dksJ13_ensureCapacityInternal_1 7 rfl rfl)
theorem dJ13_ensureCapacityInternal_32 : decode cJ13_ensureCapacityInternal 32 = .ok (.invokestatic 108, 3) := dk_184 0 108 (dk_at dksJ13_ensureCapacityInternal_1 8 rfl rfl)
theorem dJ13_ensureCapacityInternal_35 : decode cJ13_ensureCapacityInternal 35 = .ok (.putfield 15, 3) := dk_181 0 15 (dk_at dksJ13_ensureCapacityInternal_1 11 rfl rfl)
theorem dJ13_ensureCapacityInternal_38 : decode cJ13_ensureCapacityInternal 38 = .ok (.return_, 1) := dk_177 (dk_at dksJ13_ensureCapacityInternal_1 14 rfl rfl)
abbrev cJ13_newCapacity : ByteArray := prog_14_method_10_code
def yJ13_newCapacity : MethodName := ⟨RJ13, "newCapacity", "(I)I"⟩
def dkwJ13_newCapacity_2 : List UInt8 := [183, 0, 124, 191, 21, 5, 42, 180, 0, 22, 122, 172]
abbrev dktJ13_newCapacity_2 : List UInt8 := dkwJ13_newCapacity_2 ++ []
def dkwJ13_newCapacity_1 : List UInt8 := [180, 0, 22, 120, 96, 184, 0, 114, 54, 5, 21, 5, 18, 39, 160, 0, 13, 187, 0, 120, 89, 18, 122]
abbrev dktJ13_newCapacity_1 : List UInt8 := dkwJ13_newCapacity_1 ++ dktJ13_newCapacity_2
def dkwJ13_newCapacity_0 : List UInt8 := [42, 180, 0, 15, 190, 61, 27, 42, 180, 0, 22, 120, 62, 29, 28, 100, 54, 4, 28, 21, 4, 28, 5, 42]
abbrev dktJ13_newCapacity_0 : List UInt8 := dkwJ13_newCapacity_0 ++ dktJ13_newCapacity_1
theorem dksJ13_newCapacity_0 : cJ13_newCapacity.data.toList.drop 0 = dktJ13_newCapacity_0 := by decide +kernel
theorem dksJ13_newCapacity_1 : cJ13_newCapacity.data.toList.drop 24 = dktJ13_newCapacity_1 := dk_seg dksJ13_newCapacity_0 24 rfl rfl
theorem dksJ13_newCapacity_2 : cJ13_newCapacity.data.toList.drop 47 = dktJ13_newCapacity_2 := dk_seg dksJ13_newCapacity_1 23 rfl rfl
theorem dJ13_newCapacity_0 : decode cJ13_newCapacity 0 = .ok (.aload_n 0, 1) := dk_42 (dk_at dksJ13_newCapacity_0 0 rfl rfl)
theorem dJ13_newCapacity_1 : decode cJ13_newCapacity 1 = .ok (.getfield 15, 3) := dk_180 0 15 (dk_at dksJ13_newCapacity_0 1 rfl rfl)
theorem dJ13_newCapacity_4 : decode cJ13_newCapacity 4 = .ok (.arraylength, 1) := dk_190 (dk_at dksJ13_newCapacity_0 4 rfl rfl)
theorem dJ13_newCapacity_5 : decode cJ13_newCapacity 5 = .ok (.istore_n 2, 1) := dk_61 (dk_at dksJ13_newCapacity_0 5 rfl rfl)
theorem dJ13_newCapacity_6 : decode cJ13_newCapacity 6 = .ok (.iload_n 1, 1) := dk_27 (dk_at dksJ13_newCapacity_0 6 rfl rfl)
theorem dJ13_newCapacity_7 : decode cJ13_newCapacity 7 = .ok (.aload_n 0, 1) := dk_42 (dk_at dksJ13_newCapacity_0 7 rfl rfl)
theorem dJ13_newCapacity_8 : decode cJ13_newCapacity 8 = .ok (.getfield 22, 3) := dk_180 0 22 (dk_at dksJ13_newCapacity_0 8 rfl rfl)
theorem dJ13_newCapacity_11 : decode cJ13_newCapacity 11 = .ok (.ishl, 1) := dk_120 (dk_at dksJ13_newCapacity_0 11 rfl rfl)
theorem dJ13_newCapacity_12 : decode cJ13_newCapacity 12 = .ok (.istore_n 3, 1) := dk_62 (dk_at dksJ13_newCapacity_0 12 rfl rfl)
theorem dJ13_newCapacity_13 : decode cJ13_newCapacity 13 = .ok (.iload_n 3, 1) := dk_29 (dk_at dksJ13_newCapacity_0 13 rfl rfl)
theorem dJ13_newCapacity_14 : decode cJ13_newCapacity 14 = .ok (.iload_n 2, 1) := dk_28 (dk_at dksJ13_newCapacity_0 14 rfl rfl)
theorem dJ13_newCapacity_15 : decode cJ13_newCapacity 15 = .ok (.isub, 1) := dk_100 (dk_at dksJ13_newCapacity_0 15 rfl rfl)
theorem dJ13_newCapacity_16 : decode cJ13_newCapacity 16 = .ok (.istore 4, 2) := dk_54 4 (dk_at dksJ13_newCapacity_0 16 rfl rfl)
theorem dJ13_newCapacity_18 : decode cJ13_newCapacity 18 = .ok (.iload_n 2, 1) := dk_28 (dk_at dksJ13_newCapacity_0 18 rfl rfl)
theorem dJ13_newCapacity_19 : decode cJ13_newCapacity 19 = .ok (.iload 4, 2) := dk_21 4 (dk_at dksJ13_newCapacity_0 19 rfl rfl)
theorem dJ13_newCapacity_21 : decode cJ13_newCapacity 21 = .ok (.iload_n 2, 1) := dk_28 (dk_at dksJ13_newCapacity_0 21 rfl rfl)
theorem dJ13_newCapacity_22 : decode cJ13_newCapacity 22 = .ok (.iconst 2, 1) := dk_5 (dk_at dksJ13_newCapacity_0 22 rfl rfl)
theorem dJ13_newCapacity_23 : decode cJ13_newCapacity 23 = .ok (.aload_n 0, 1) := dk_42 (dk_at dksJ13_newCapacity_0 23 rfl rfl)
theorem dJ13_newCapacity_24 : decode cJ13_newCapacity 24 = .ok (.getfield 22, 3) := dk_180 0 22 (dk_at dksJ13_newCapacity_1 0 rfl rfl)
theorem dJ13_newCapacity_27 : decode cJ13_newCapacity 27 = .ok (.ishl, 1) := dk_120 (dk_at dksJ13_newCapacity_1 3 rfl rfl)
theorem dJ13_newCapacity_28 : decode cJ13_newCapacity 28 = .ok (.iadd, 1) := dk_96 (dk_at dksJ13_newCapacity_1 4 rfl rfl)
theorem dJ13_newCapacity_29 : decode cJ13_newCapacity 29 = .ok (.invokestatic 114, 3) := dk_184 0 114 (dk_at dksJ13_newCapacity_1 5 rfl rfl)
theorem dJ13_newCapacity_32 : decode cJ13_newCapacity 32 = .ok (.istore 5, 2) := dk_54 5 (dk_at dksJ13_newCapacity_1 8 rfl rfl)
theorem dJ13_newCapacity_34 : decode cJ13_newCapacity 34 = .ok (.iload 5, 2) := dk_21 5 (dk_at dksJ13_newCapacity_1 10 rfl rfl)
theorem dJ13_newCapacity_36 : decode cJ13_newCapacity 36 = .ok (.ldc 39, 2) := dk_18 39 (dk_at dksJ13_newCapacity_1 12 rfl rfl)
theorem dJ13_newCapacity_38 : decode cJ13_newCapacity 38 = .ok (.if_icmp .ne 13, 3) := dk_160 0 13 (dk_at dksJ13_newCapacity_1 14 rfl rfl)
theorem dJ13_newCapacity_41 : decode cJ13_newCapacity 41 = .ok (.new 120, 3) := dk_187 0 120 (dk_at dksJ13_newCapacity_1 17 rfl rfl)
theorem dJ13_newCapacity_44 : decode cJ13_newCapacity 44 = .ok (.dup, 1) := dk_89 (dk_at dksJ13_newCapacity_1 20 rfl rfl)
theorem dJ13_newCapacity_45 : decode cJ13_newCapacity 45 = .ok (.ldc 122, 2) := dk_18 122 (dk_at dksJ13_newCapacity_1 21 rfl rfl)
theorem dJ13_newCapacity_47 : decode cJ13_newCapacity 47 = .ok (.invokespecial 124, 3) := dk_183 0 124 (dk_at dksJ13_newCapacity_2 0 rfl rfl)
theorem dJ13_newCapacity_50 : decode cJ13_newCapacity 50 = .ok (.athrow, 1) := dk_191 (dk_at dksJ13_newCapacity_2 3 rfl rfl)
theorem dJ13_newCapacity_51 : decode cJ13_newCapacity 51 = .ok (.iload 5, 2) := dk_21 5 (dk_at dksJ13_newCapacity_2 4 rfl rfl)
theorem dJ13_newCapacity_53 : decode cJ13_newCapacity 53 = .ok (.aload_n 0, 1) := dk_42 (dk_at dksJ13_newCapacity_2 6 rfl rfl)
theorem dJ13_newCapacity_54 : decode cJ13_newCapacity 54 = .ok (.getfield 22, 3) := dk_180 0 22 (dk_at dksJ13_newCapacity_2 7 rfl rfl)
theorem dJ13_newCapacity_57 : decode cJ13_newCapacity 57 = .ok (.ishr, 1) := dk_122 (dk_at dksJ13_newCapacity_2 10 rfl rfl)
theorem dJ13_newCapacity_58 : decode cJ13_newCapacity 58 = .ok (.ireturn, 1) := dk_172 (dk_at dksJ13_newCapacity_2 11 rfl rfl)
abbrev cJ13_isLatin1 : ByteArray := prog_14_method_68_code
def yJ13_isLatin1 : MethodName := ⟨RJ13, "isLatin1", "()Z"⟩
def dkwJ13_isLatin1_0 : List UInt8 := [178, 0, 18, 153, 0, 14, 42, 180, 0, 22, 154, 0, 7, 4, 167, 0, 4, 3, 172]
abbrev dktJ13_isLatin1_0 : List UInt8 := dkwJ13_isLatin1_0 ++ []
theorem dksJ13_isLatin1_0 : cJ13_isLatin1.data.toList.drop 0 = dktJ13_isLatin1_0 := by decide +kernel
theorem dJ13_isLatin1_0 : decode cJ13_isLatin1 0 = .ok (.getstatic 18, 3) := dk_178 0 18 (dk_at dksJ13_isLatin1_0 0 rfl rfl)
theorem dJ13_isLatin1_3 : decode cJ13_isLatin1 3 = .ok (.ifCond .eq 14, 3) := dk_153 0 14 (dk_at dksJ13_isLatin1_0 3 rfl rfl)
theorem dJ13_isLatin1_6 : decode cJ13_isLatin1 6 = .ok (.aload_n 0, 1) := dk_42 (dk_at dksJ13_isLatin1_0 6 rfl rfl)
theorem dJ13_isLatin1_7 : decode cJ13_isLatin1 7 = .ok (.getfield 22, 3) := dk_180 0 22 (dk_at dksJ13_isLatin1_0 7 rfl rfl)
theorem dJ13_isLatin1_10 : decode cJ13_isLatin1 10 = .ok (.ifCond .ne 7, 3) := dk_154 0 7 (dk_at dksJ13_isLatin1_0 10 rfl rfl)
theorem dJ13_isLatin1_13 : decode cJ13_isLatin1 13 = .ok (.iconst 1, 1) := dk_4 (dk_at dksJ13_isLatin1_0 13 rfl rfl)
theorem dJ13_isLatin1_14 : decode cJ13_isLatin1 14 = .ok (.goto 4, 3) := dk_167 0 4 (dk_at dksJ13_isLatin1_0 14 rfl rfl)
theorem dJ13_isLatin1_17 : decode cJ13_isLatin1 17 = .ok (.iconst 0, 1) := dk_3 (dk_at dksJ13_isLatin1_0 17 rfl rfl)
theorem dJ13_isLatin1_18 : decode cJ13_isLatin1 18 = .ok (.ireturn, 1) := dk_172 (dk_at dksJ13_isLatin1_0 18 rfl rfl)
abbrev cJ13_inflate : ByteArray := prog_14_method_11_code
def yJ13_inflate : MethodName := ⟨RJ13, "inflate", "()V"⟩
def dkwJ13_inflate_1 : List UInt8 := [42, 180, 0, 79, 184, 0, 125, 42, 43, 181, 0, 15, 42, 4, 181, 0, 22, 177]
abbrev dktJ13_inflate_1 : List UInt8 := dkwJ13_inflate_1 ++ []
def dkwJ13_inflate_0 : List UInt8 := [42, 182, 0, 83, 154, 0, 4, 177, 42, 180, 0, 15, 190, 184, 0, 26, 76, 42, 180, 0, 15, 3, 43, 3]
abbrev dktJ13_inflate_0 : List UInt8 := dkwJ13_inflate_0 ++ dktJ13_inflate_1
theorem dksJ13_inflate_0 : cJ13_inflate.data.toList.drop 0 = dktJ13_inflate_0 := by decide +kernel
theorem dksJ13_inflate_1 : cJ13_inflate.data.toList.drop 24 = dktJ13_inflate_1 := dk_seg dksJ13_inflate_0 24 rfl rfl
theorem dJ13_inflate_0 : decode cJ13_inflate 0 = .ok (.aload_n 0, 1) := dk_42 (dk_at dksJ13_inflate_0 0 rfl rfl)
theorem dJ13_inflate_1 : decode cJ13_inflate 1 = .ok (.invokevirtual 83, 3) := dk_182 0 83 (dk_at dksJ13_inflate_0 1 rfl rfl)
theorem dJ13_inflate_4 : decode cJ13_inflate 4 = .ok (.ifCond .ne 4, 3) := dk_154 0 4 (dk_at dksJ13_inflate_0 4 rfl rfl)
theorem dJ13_inflate_7 : decode cJ13_inflate 7 = .ok (.return_, 1) := dk_177 (dk_at dksJ13_inflate_0 7 rfl rfl)
theorem dJ13_inflate_8 : decode cJ13_inflate 8 = .ok (.aload_n 0, 1) := dk_42 (dk_at dksJ13_inflate_0 8 rfl rfl)
theorem dJ13_inflate_9 : decode cJ13_inflate 9 = .ok (.getfield 15, 3) := dk_180 0 15 (dk_at dksJ13_inflate_0 9 rfl rfl)
theorem dJ13_inflate_12 : decode cJ13_inflate 12 = .ok (.arraylength, 1) := dk_190 (dk_at dksJ13_inflate_0 12 rfl rfl)
theorem dJ13_inflate_13 : decode cJ13_inflate 13 = .ok (.invokestatic 26, 3) := dk_184 0 26 (dk_at dksJ13_inflate_0 13 rfl rfl)
theorem dJ13_inflate_16 : decode cJ13_inflate 16 = .ok (.astore_n 1, 1) := dk_76 (dk_at dksJ13_inflate_0 16 rfl rfl)
theorem dJ13_inflate_17 : decode cJ13_inflate 17 = .ok (.aload_n 0, 1) := dk_42 (dk_at dksJ13_inflate_0 17 rfl rfl)
theorem dJ13_inflate_18 : decode cJ13_inflate 18 = .ok (.getfield 15, 3) := dk_180 0 15 (dk_at dksJ13_inflate_0 18 rfl rfl)
theorem dJ13_inflate_21 : decode cJ13_inflate 21 = .ok (.iconst 0, 1) := dk_3 (dk_at dksJ13_inflate_0 21 rfl rfl)
theorem dJ13_inflate_22 : decode cJ13_inflate 22 = .ok (.aload_n 1, 1) := dk_43 (dk_at dksJ13_inflate_0 22 rfl rfl)
theorem dJ13_inflate_23 : decode cJ13_inflate 23 = .ok (.iconst 0, 1) := dk_3 (dk_at dksJ13_inflate_0 23 rfl rfl)
theorem dJ13_inflate_24 : decode cJ13_inflate 24 = .ok (.aload_n 0, 1) := dk_42 (dk_at dksJ13_inflate_1 0 rfl rfl)
theorem dJ13_inflate_25 : decode cJ13_inflate 25 = .ok (.getfield 79, 3) := dk_180 0 79 (dk_at dksJ13_inflate_1 1 rfl rfl)
theorem dJ13_inflate_28 : decode cJ13_inflate 28 = .ok (.invokestatic 125, 3) := dk_184 0 125 (dk_at dksJ13_inflate_1 4 rfl rfl)
theorem dJ13_inflate_31 : decode cJ13_inflate 31 = .ok (.aload_n 0, 1) := dk_42 (dk_at dksJ13_inflate_1 7 rfl rfl)
theorem dJ13_inflate_32 : decode cJ13_inflate 32 = .ok (.aload_n 1, 1) := dk_43 (dk_at dksJ13_inflate_1 8 rfl rfl)
theorem dJ13_inflate_33 : decode cJ13_inflate 33 = .ok (.putfield 15, 3) := dk_181 0 15 (dk_at dksJ13_inflate_1 9 rfl rfl)
theorem dJ13_inflate_36 : decode cJ13_inflate 36 = .ok (.aload_n 0, 1) := dk_42 (dk_at dksJ13_inflate_1 12 rfl rfl)
theorem dJ13_inflate_37 : decode cJ13_inflate 37 = .ok (.iconst 1, 1) := dk_4 (dk_at dksJ13_inflate_1 13 rfl rfl)
theorem dJ13_inflate_38 : decode cJ13_inflate 38 = .ok (.putfield 22, 3) := dk_181 0 22 (dk_at dksJ13_inflate_1 14 rfl rfl)
theorem dJ13_inflate_41 : decode cJ13_inflate 41 = .ok (.return_, 1) := dk_177 (dk_at dksJ13_inflate_1 17 rfl rfl)
theorem q157 : (Jvm.Cond.initialized "java/lang/AbstractStringBuilder") ∈ lw_all := lw_g (lw_at lw_m1 23 rfl) rfl
theorem q564 : (Jvm.Cond.instanceMethod ({ cls := "java/lang/AbstractStringBuilder", name := "charAt", desc := "(I)C" } : Jvm.MethodName)) ∈ lw_all := lw_g (lw_at lw_m2 190 rfl) rfl
theorem q565 : (Jvm.Cond.code ({ cls := "java/lang/AbstractStringBuilder", name := "charAt", desc := "(I)C" } : Jvm.MethodName) prog_14_method_14_code (5 : Nat) (Option.some Jvm.ClassFile.FieldType.char)) ∈ lw_all := lw_g (lw_at lw_m2 191 rfl) rfl
theorem q566 : (Jvm.Cond.methodLink "java/lang/AbstractStringBuilder" (138 : Nat) ({ cls := "java/lang/Math", name := "min", desc := "(II)I" } : Jvm.MethodName)) ∈ lw_all := lw_g (lw_at lw_m2 192 rfl) rfl
theorem q567 : (Jvm.Cond.methodLink "java/lang/AbstractStringBuilder" (144 : Nat) ({ cls := "java/lang/String", name := "checkIndex", desc := "(II)V" } : Jvm.MethodName)) ∈ lw_all := lw_g (lw_at lw_m2 193 rfl) rfl
theorem q573 : (Jvm.Cond.methodLink "java/lang/AbstractStringBuilder" (148 : Nat) ({ cls := "java/lang/StringUTF16", name := "getChar", desc := "([BI)C" } : Jvm.MethodName)) ∈ lw_all := lw_g (lw_at lw_m2 199 rfl) rfl
theorem q1052 : (Jvm.Cond.instanceMethod ({ cls := "java/lang/AbstractStringBuilder", name := "<init>", desc := "(I)V" } : Jvm.MethodName)) ∈ lw_all := lw_g (lw_at lw_m4 198 rfl) rfl
theorem q1053 : (Jvm.Cond.code ({ cls := "java/lang/AbstractStringBuilder", name := "<init>", desc := "(I)V" } : Jvm.MethodName) prog_14_method_2_code (2 : Nat) (Option.none : Option Jvm.ClassFile.FieldType)) ∈ lw_all := lw_g (lw_at lw_m4 199 rfl) rfl
theorem q1054 : (Jvm.Cond.methodLink "java/lang/AbstractStringBuilder" (3 : Nat) ({ cls := "java/lang/Object", name := "<init>", desc := "()V" } : Jvm.MethodName)) ∈ lw_all := lw_g (lw_at lw_m4 200 rfl) rfl
theorem q1055 : (Jvm.Cond.fieldLink "java/lang/AbstractStringBuilder" (18 : Nat) "java/lang/String" "COMPACT_STRINGS" "Z") ∈ lw_all := lw_g (lw_at lw_m4 201 rfl) rfl
theorem q1056 : (Jvm.Cond.methodLink "java/lang/AbstractStringBuilder" (26 : Nat) ({ cls := "java/lang/StringUTF16", name := "newBytesFor", desc := "(I)[B" } : Jvm.MethodName)) ∈ lw_all := lw_g (lw_at lw_m4 202 rfl) rfl
theorem q1063 : (Jvm.Cond.fieldLink "java/lang/AbstractStringBuilder" (15 : Nat) "java/lang/AbstractStringBuilder" "value" "[B") ∈ lw_all := lw_g (lw_at lw_m4 209 rfl) rfl
theorem q1064 : (Jvm.Cond.fieldLink "java/lang/AbstractStringBuilder" (22 : Nat) "java/lang/AbstractStringBuilder" "coder" "B") ∈ lw_all := lw_g (lw_at lw_m4 210 rfl) rfl
theorem q1065 : (Jvm.Cond.fieldLink "java/lang/AbstractStringBuilder" (79 : Nat) "java/lang/AbstractStringBuilder" "count" "I") ∈ lw_all := lw_g (lw_at lw_m4 211 rfl) rfl
theorem q1067 : (Jvm.Cond.soleField "java/lang/AbstractStringBuilder" "value") ∈ lw_all := lw_g (lw_at lw_m4 213 rfl) rfl
theorem q1069 : (Jvm.Cond.soleField "java/lang/AbstractStringBuilder" "coder") ∈ lw_all := lw_g (lw_at lw_m4 215 rfl) rfl
theorem q1071 : (Jvm.Cond.soleField "java/lang/AbstractStringBuilder" "maybeLatin1") ∈ lw_all := lw_g (lw_at lw_m4 217 rfl) rfl
theorem q1073 : (Jvm.Cond.soleField "java/lang/AbstractStringBuilder" "count") ∈ lw_all := lw_g (lw_at lw_m4 219 rfl) rfl
theorem q1096 : (Jvm.Cond.instanceMethod ({ cls := "java/lang/AbstractStringBuilder", name := "append", desc := "(C)Ljava/lang/AbstractStringBuilder;" } : Jvm.MethodName)) ∈ lw_all := lw_g (lw_at lw_m5 2 rfl) rfl
theorem q1097 : (Jvm.Cond.code ({ cls := "java/lang/AbstractStringBuilder", name := "append", desc := "(C)Ljava/lang/AbstractStringBuilder;" } : Jvm.MethodName) prog_14_method_31_code (2 : Nat) (Option.some (Jvm.ClassFile.FieldType.object "java/lang/AbstractStringBuilder"))) ∈ lw_all := lw_g (lw_at lw_m5 3 rfl) rfl
theorem q1098 : (Jvm.Cond.methodLink "java/lang/AbstractStringBuilder" (100 : Nat) ({ cls := "java/lang/AbstractStringBuilder", name := "ensureCapacityInternal", desc := "(I)V" } : Jvm.MethodName)) ∈ lw_all := lw_g (lw_at lw_m5 4 rfl) rfl
theorem q1099 : (Jvm.Cond.privateMethod ({ cls := "java/lang/AbstractStringBuilder", name := "ensureCapacityInternal", desc := "(I)V" } : Jvm.MethodName)) ∈ lw_tbl := lw_at lw_m5 5 rfl
theorem q1100 : (Jvm.Cond.instanceMethod ({ cls := "java/lang/AbstractStringBuilder", name := "ensureCapacityInternal", desc := "(I)V" } : Jvm.MethodName)) ∈ lw_all := lw_g (lw_at lw_m5 6 rfl) rfl
theorem q1101 : (Jvm.Cond.code ({ cls := "java/lang/AbstractStringBuilder", name := "ensureCapacityInternal", desc := "(I)V" } : Jvm.MethodName) prog_14_method_9_code (3 : Nat) (Option.none : Option Jvm.ClassFile.FieldType)) ∈ lw_all := lw_g (lw_at lw_m5 7 rfl) rfl
theorem q1102 : (Jvm.Cond.methodLink "java/lang/AbstractStringBuilder" (104 : Nat) ({ cls := "java/lang/AbstractStringBuilder", name := "newCapacity", desc := "(I)I" } : Jvm.MethodName)) ∈ lw_all := lw_g (lw_at lw_m5 8 rfl) rfl
theorem q1103 : (Jvm.Cond.privateMethod ({ cls := "java/lang/AbstractStringBuilder", name := "newCapacity", desc := "(I)I" } : Jvm.MethodName)) ∈ lw_tbl := lw_at lw_m5 9 rfl
theorem q1104 : (Jvm.Cond.instanceMethod ({ cls := "java/lang/AbstractStringBuilder", name := "newCapacity", desc := "(I)I" } : Jvm.MethodName)) ∈ lw_all := lw_g (lw_at lw_m5 10 rfl) rfl
theorem q1105 : (Jvm.Cond.code ({ cls := "java/lang/AbstractStringBuilder", name := "newCapacity", desc := "(I)I" } : Jvm.MethodName) prog_14_method_10_code (6 : Nat) (Option.some Jvm.ClassFile.FieldType.int)) ∈ lw_all := lw_g (lw_at lw_m5 11 rfl) rfl
theorem q1106 : (Jvm.Cond.methodLink "java/lang/AbstractStringBuilder" (114 : Nat) ({ cls := "jdk/internal/util/ArraysSupport", name := "newLength", desc := "(III)I" } : Jvm.MethodName)) ∈ lw_all := lw_g (lw_at lw_m5 12 rfl) rfl
theorem q1107 : (Jvm.Cond.constant "java/lang/AbstractStringBuilder" (39 : Nat) (2147483647 : Int32)) ∈ lw_all := lw_g (lw_at lw_m5 13 rfl) rfl
theorem q1108 : (Jvm.Cond.methodLink "java/lang/AbstractStringBuilder" (108 : Nat) ({ cls := "java/util/Arrays", name := "copyOf", desc := "([BI)[B" } : Jvm.MethodName)) ∈ lw_all := lw_g (lw_at lw_m5 14 rfl) rfl
theorem q1118 : (Jvm.Cond.methodLink "java/lang/AbstractStringBuilder" (83 : Nat) ({ cls := "java/lang/AbstractStringBuilder", name := "isLatin1", desc := "()Z" } : Jvm.MethodName)) ∈ lw_all := lw_g (lw_at lw_m5 24 rfl) rfl
theorem q1119 : (Jvm.Cond.instanceMethod ({ cls := "java/lang/AbstractStringBuilder", name := "isLatin1", desc := "()Z" } : Jvm.MethodName)) ∈ lw_all := lw_g (lw_at lw_m5 25 rfl) rfl
theorem q1120 : (Jvm.Cond.sameMethod "java/lang/AbstractStringBuilder" "java/lang/AbstractStringBuilder" "isLatin1" "()Z") ∈ lw_all := lw_g (lw_at lw_m5 26 rfl) rfl
theorem q1122 : (Jvm.Cond.code ({ cls := "java/lang/AbstractStringBuilder", name := "isLatin1", desc := "()Z" } : Jvm.MethodName) prog_14_method_68_code (1 : Nat) (Option.some Jvm.ClassFile.FieldType.boolean)) ∈ lw_all := lw_g (lw_at lw_m5 28 rfl) rfl
theorem q1123 : (Jvm.Cond.methodLink "java/lang/AbstractStringBuilder" (191 : Nat) ({ cls := "java/lang/StringLatin1", name := "canEncode", desc := "(C)Z" } : Jvm.MethodName)) ∈ lw_all := lw_g (lw_at lw_m5 29 rfl) rfl
theorem q1126 : (Jvm.Cond.methodLink "java/lang/AbstractStringBuilder" (195 : Nat) ({ cls := "java/lang/AbstractStringBuilder", name := "inflate", desc := "()V" } : Jvm.MethodName)) ∈ lw_all := lw_g (lw_at lw_m5 32 rfl) rfl
theorem q1127 : (Jvm.Cond.privateMethod ({ cls := "java/lang/AbstractStringBuilder", name := "inflate", desc := "()V" } : Jvm.MethodName)) ∈ lw_tbl := lw_at lw_m5 33 rfl
theorem q1128 : (Jvm.Cond.instanceMethod ({ cls := "java/lang/AbstractStringBuilder", name := "inflate", desc := "()V" } : Jvm.MethodName)) ∈ lw_all := lw_g (lw_at lw_m5 34 rfl) rfl
theorem q1129 : (Jvm.Cond.code ({ cls := "java/lang/AbstractStringBuilder", name := "inflate", desc := "()V" } : Jvm.MethodName) prog_14_method_11_code (2 : Nat) (Option.none : Option Jvm.ClassFile.FieldType)) ∈ lw_all := lw_g (lw_at lw_m5 35 rfl) rfl
theorem q1130 : (Jvm.Cond.methodLink "java/lang/AbstractStringBuilder" (125 : Nat) ({ cls := "java/lang/StringLatin1", name := "inflate", desc := "([BI[BII)V" } : Jvm.MethodName)) ∈ lw_all := lw_g (lw_at lw_m5 36 rfl) rfl
theorem q1148 : (Jvm.Cond.methodLink "java/lang/AbstractStringBuilder" (197 : Nat) ({ cls := "java/lang/StringUTF16", name := "putCharSB", desc := "([BII)V" } : Jvm.MethodName)) ∈ lw_all := lw_g (lw_at lw_m5 54 rfl) rfl
theorem q2349 : (Jvm.Cond.sameMethod "java/lang/AbstractStringBuilder" "java/lang/AbstractStringBuilder" "charAt" "(I)C") ∈ lw_all := lw_g (lw_at lw_m10 55 rfl) rfl
theorem q2351 : (Jvm.Cond.sameMethod "java/lang/AbstractStringBuilder" "java/lang/AbstractStringBuilder" "append" "(C)Ljava/lang/AbstractStringBuilder;") ∈ lw_all := lw_g (lw_at lw_m10 57 rfl) rfl
theorem q2352 : (Jvm.Cond.sameMethod "java/lang/AbstractStringBuilder" "java/lang/AbstractStringBuilder" "ensureCapacityInternal" "(I)V") ∈ lw_all := lw_g (lw_at lw_m10 58 rfl) rfl
theorem q2353 : (Jvm.Cond.sameMethod "java/lang/AbstractStringBuilder" "java/lang/AbstractStringBuilder" "newCapacity" "(I)I") ∈ lw_all := lw_g (lw_at lw_m10 59 rfl) rfl
theorem q2354 : (Jvm.Cond.sameMethod "java/lang/AbstractStringBuilder" "java/lang/AbstractStringBuilder" "inflate" "()V") ∈ lw_all := lw_g (lw_at lw_m10 60 rfl) rfl

/-! java/lang/StringBuilder -/
set_option maxRecDepth 100000
def RJ14 : String := "java/lang/StringBuilder"
def TJ14 : u_T := fun k => match k with
  | 0 => ("java/lang/AbstractStringBuilder", "value", "[B", false)
  | 1 => ("java/lang/AbstractStringBuilder", "coder", "B", false)
  | 2 => ("java/lang/AbstractStringBuilder", "maybeLatin1", "Z", false)
  | _ => ("java/lang/AbstractStringBuilder", "count", "I", false)
def tyJ14 : Nat → FieldType := fun k => match k with
  | 0 => .array .byte
  | 1 => .byte
  | 2 => .boolean
  | _ => .int
abbrev wsJ140 : List Cond := u_ws RJ14 TJ14 4
theorem nmJ14 : ∀ a, a < 4 → ∀ b, b < 4 → a ≠ b → (TJ14 a).2.1 ≠ (TJ14 b).2.1 := by decide +kernel
theorem tyJ14_ok : ∀ k, k < 4 → parseFieldDescriptor (TJ14 k).2.2.1 = some (tyJ14 k) := by decide +kernel
abbrev cJ14_charAt : ByteArray := prog_29_method_88_code
def yJ14_charAt : MethodName := ⟨RJ14, "charAt", "(I)C"⟩
def dkwJ14_charAt_0 : List UInt8 := [42, 27, 183, 1, 73, 172]
abbrev dktJ14_charAt_0 : List UInt8 := dkwJ14_charAt_0 ++ []
theorem dksJ14_charAt_0 : cJ14_charAt.data.toList.drop 0 = dktJ14_charAt_0 := by decide +kernel
theorem dJ14_charAt_0 : decode cJ14_charAt 0 = .ok (.aload_n 0, 1) := dk_42 (dk_at dksJ14_charAt_0 0 rfl rfl)
theorem dJ14_charAt_1 : decode cJ14_charAt 1 = .ok (.iload_n 1, 1) := dk_27 (dk_at dksJ14_charAt_0 1 rfl rfl)
theorem dJ14_charAt_2 : decode cJ14_charAt 2 = .ok (.invokespecial 329, 3) := dk_183 1 73 (dk_at dksJ14_charAt_0 2 rfl rfl)
theorem dJ14_charAt_5 : decode cJ14_charAt 5 = .ok (.ireturn, 1) := dk_172 (dk_at dksJ14_charAt_0 5 rfl rfl)
abbrev cJ14_init : ByteArray := prog_29_method_1_code
def yJ14_init : MethodName := ⟨RJ14, "<init>", "()V"⟩
def dkwJ14_init_0 : List UInt8 := [42, 16, 16, 183, 0, 1, 177]
abbrev dktJ14_init_0 : List UInt8 := dkwJ14_init_0 ++ []
theorem dksJ14_init_0 : cJ14_init.data.toList.drop 0 = dktJ14_init_0 := by decide +kernel
theorem dJ14_init_0 : decode cJ14_init 0 = .ok (.aload_n 0, 1) := dk_42 (dk_at dksJ14_init_0 0 rfl rfl)
theorem dJ14_init_1 : decode cJ14_init 1 = .ok (.bipush 16, 2) := dk_16 16 (dk_at dksJ14_init_0 1 rfl rfl)
theorem dJ14_init_3 : decode cJ14_init 3 = .ok (.invokespecial 1, 3) := dk_183 0 1 (dk_at dksJ14_init_0 3 rfl rfl)
theorem dJ14_init_6 : decode cJ14_init 6 = .ok (.return_, 1) := dk_177 (dk_at dksJ14_init_0 6 rfl rfl)
abbrev cJ14_append : ByteArray := prog_29_method_14_code
def yJ14_append : MethodName := ⟨RJ14, "append", "(C)Ljava/lang/StringBuilder;"⟩
def dkwJ14_append_0 : List UInt8 := [42, 27, 183, 0, 50, 87, 42, 176]
abbrev dktJ14_append_0 : List UInt8 := dkwJ14_append_0 ++ []
theorem dksJ14_append_0 : cJ14_append.data.toList.drop 0 = dktJ14_append_0 := by decide +kernel
theorem dJ14_append_0 : decode cJ14_append 0 = .ok (.aload_n 0, 1) := dk_42 (dk_at dksJ14_append_0 0 rfl rfl)
theorem dJ14_append_1 : decode cJ14_append 1 = .ok (.iload_n 1, 1) := dk_27 (dk_at dksJ14_append_0 1 rfl rfl)
theorem dJ14_append_2 : decode cJ14_append 2 = .ok (.invokespecial 50, 3) := dk_183 0 50 (dk_at dksJ14_append_0 2 rfl rfl)
theorem dJ14_append_5 : decode cJ14_append 5 = .ok (.pop, 1) := dk_87 (dk_at dksJ14_append_0 5 rfl rfl)
theorem dJ14_append_6 : decode cJ14_append 6 = .ok (.aload_n 0, 1) := dk_42 (dk_at dksJ14_append_0 6 rfl rfl)
theorem dJ14_append_7 : decode cJ14_append 7 = .ok (.areturn, 1) := dk_176 (dk_at dksJ14_append_0 7 rfl rfl)
theorem q158 : (Jvm.Cond.initialized "java/lang/StringBuilder") ∈ lw_all := lw_g (lw_at lw_m1 24 rfl) rfl
theorem q404 : (Jvm.Cond.selects "java/lang/StringBuilder" ({ cls := "java/lang/Object", name := "getClass", desc := "()Ljava/lang/Class;" } : Jvm.MethodName) ({ cls := "java/lang/Object", name := "getClass", desc := "()Ljava/lang/Class;" } : Jvm.MethodName)) ∈ lw_all := lw_g (lw_at lw_m2 30 rfl) rfl
theorem q559 : (Jvm.Cond.instanceMethod ({ cls := "java/lang/StringBuilder", name := "charAt", desc := "(I)C" } : Jvm.MethodName)) ∈ lw_all := lw_g (lw_at lw_m2 185 rfl) rfl
theorem q560 : (Jvm.Cond.selects "java/lang/StringBuilder" ({ cls := "java/lang/StringBuilder", name := "charAt", desc := "(I)C" } : Jvm.MethodName) ({ cls := "java/lang/StringBuilder", name := "charAt", desc := "(I)C" } : Jvm.MethodName)) ∈ lw_all := lw_g (lw_at lw_m2 186 rfl) rfl
theorem q561 : (Jvm.Cond.code ({ cls := "java/lang/StringBuilder", name := "charAt", desc := "(I)C" } : Jvm.MethodName) prog_29_method_88_code (2 : Nat) (Option.some Jvm.ClassFile.FieldType.char)) ∈ lw_all := lw_g (lw_at lw_m2 187 rfl) rfl
theorem q562 : (Jvm.Cond.methodLink "java/lang/StringBuilder" (329 : Nat) ({ cls := "java/lang/AbstractStringBuilder", name := "charAt", desc := "(I)C" } : Jvm.MethodName)) ∈ lw_all := lw_g (lw_at lw_m2 188 rfl) rfl
theorem q563 : (Jvm.Cond.superclass "java/lang/StringBuilder" "java/lang/AbstractStringBuilder") ∈ lw_all := lw_g (lw_at lw_m2 189 rfl) rfl
theorem q1047 : (Jvm.Cond.instantiable "java/lang/StringBuilder" (4 : Nat)) ∈ lw_all := lw_g (lw_at lw_m4 193 rfl) rfl
theorem q1049 : (Jvm.Cond.instanceMethod ({ cls := "java/lang/StringBuilder", name := "<init>", desc := "()V" } : Jvm.MethodName)) ∈ lw_all := lw_g (lw_at lw_m4 195 rfl) rfl
theorem q1050 : (Jvm.Cond.code ({ cls := "java/lang/StringBuilder", name := "<init>", desc := "()V" } : Jvm.MethodName) prog_29_method_1_code (1 : Nat) (Option.none : Option Jvm.ClassFile.FieldType)) ∈ lw_all := lw_g (lw_at lw_m4 196 rfl) rfl
theorem q1051 : (Jvm.Cond.methodLink "java/lang/StringBuilder" (1 : Nat) ({ cls := "java/lang/AbstractStringBuilder", name := "<init>", desc := "(I)V" } : Jvm.MethodName)) ∈ lw_all := lw_g (lw_at lw_m4 197 rfl) rfl
theorem q1066 : (Jvm.Cond.lays "java/lang/StringBuilder" "java/lang/AbstractStringBuilder" "value" "[B") ∈ lw_all := lw_g (lw_at lw_m4 212 rfl) rfl
theorem q1068 : (Jvm.Cond.lays "java/lang/StringBuilder" "java/lang/AbstractStringBuilder" "coder" "B") ∈ lw_all := lw_g (lw_at lw_m4 214 rfl) rfl
theorem q1070 : (Jvm.Cond.lays "java/lang/StringBuilder" "java/lang/AbstractStringBuilder" "maybeLatin1" "Z") ∈ lw_all := lw_g (lw_at lw_m4 216 rfl) rfl
theorem q1072 : (Jvm.Cond.lays "java/lang/StringBuilder" "java/lang/AbstractStringBuilder" "count" "I") ∈ lw_all := lw_g (lw_at lw_m4 218 rfl) rfl
theorem q1092 : (Jvm.Cond.instanceMethod ({ cls := "java/lang/StringBuilder", name := "append", desc := "(C)Ljava/lang/StringBuilder;" } : Jvm.MethodName)) ∈ lw_all := lw_g (lw_at lw_m4 238 rfl) rfl
theorem q1093 : (Jvm.Cond.selects "java/lang/StringBuilder" ({ cls := "java/lang/StringBuilder", name := "append", desc := "(C)Ljava/lang/StringBuilder;" } : Jvm.MethodName) ({ cls := "java/lang/StringBuilder", name := "append", desc := "(C)Ljava/lang/StringBuilder;" } : Jvm.MethodName)) ∈ lw_all := lw_g (lw_at lw_m4 239 rfl) rfl
theorem q1094 : (Jvm.Cond.code ({ cls := "java/lang/StringBuilder", name := "append", desc := "(C)Ljava/lang/StringBuilder;" } : Jvm.MethodName) prog_29_method_14_code (2 : Nat) (Option.some (Jvm.ClassFile.FieldType.object "java/lang/StringBuilder"))) ∈ lw_all := lw_g (lw_at lw_m5 0 rfl) rfl
theorem q1095 : (Jvm.Cond.methodLink "java/lang/StringBuilder" (50 : Nat) ({ cls := "java/lang/AbstractStringBuilder", name := "append", desc := "(C)Ljava/lang/AbstractStringBuilder;" } : Jvm.MethodName)) ∈ lw_all := lw_g (lw_at lw_m5 1 rfl) rfl
theorem q1121 : (Jvm.Cond.selects "java/lang/StringBuilder" ({ cls := "java/lang/AbstractStringBuilder", name := "isLatin1", desc := "()Z" } : Jvm.MethodName) ({ cls := "java/lang/AbstractStringBuilder", name := "isLatin1", desc := "()Z" } : Jvm.MethodName)) ∈ lw_all := lw_g (lw_at lw_m5 27 rfl) rfl
theorem q2368 : (Jvm.Cond.castable "java/lang/StringBuilder" "java/lang/Object") ∈ lw_tbl := lw_at lw_m10 74 rfl
theorem in_J14 : ∀ w ∈ wsJ140, w ∈ lw_all := lw_in wsJ140 [1066, 1068, 1070, 1072] (by decide +kernel) (by decide +kernel)

/-! jdk/internal/util/ArraysSupport -/
set_option maxRecDepth 100000
def RJ15 : String := "jdk/internal/util/ArraysSupport"
abbrev cJ15_newLength : ByteArray := prog_46_method_27_code
def yJ15_newLength : MethodName := ⟨RJ15, "newLength", "(III)I"⟩
def dkwJ15_newLength_1 : List UInt8 := [184, 0, 201, 172]
abbrev dktJ15_newLength_1 : List UInt8 := dkwJ15_newLength_1 ++ []
def dkwJ15_newLength_0 : List UInt8 := [26, 27, 28, 184, 0, 194, 96, 62, 3, 29, 162, 0, 11, 29, 18, 200, 163, 0, 5, 29, 172, 26, 27]
abbrev dktJ15_newLength_0 : List UInt8 := dkwJ15_newLength_0 ++ dktJ15_newLength_1
theorem dksJ15_newLength_0 : cJ15_newLength.data.toList.drop 0 = dktJ15_newLength_0 := by decide +kernel
theorem dksJ15_newLength_1 : cJ15_newLength.data.toList.drop 23 = dktJ15_newLength_1 := dk_seg dksJ15_newLength_0 23 rfl rfl
theorem dJ15_newLength_0 : decode cJ15_newLength 0 = .ok (.iload_n 0, 1) := dk_26 (dk_at dksJ15_newLength_0 0 rfl rfl)
theorem dJ15_newLength_1 : decode cJ15_newLength 1 = .ok (.iload_n 1, 1) := dk_27 (dk_at dksJ15_newLength_0 1 rfl rfl)
theorem dJ15_newLength_2 : decode cJ15_newLength 2 = .ok (.iload_n 2, 1) := dk_28 (dk_at dksJ15_newLength_0 2 rfl rfl)
theorem dJ15_newLength_3 : decode cJ15_newLength 3 = .ok (.invokestatic 194, 3) := dk_184 0 194 (dk_at dksJ15_newLength_0 3 rfl rfl)
theorem dJ15_newLength_6 : decode cJ15_newLength 6 = .ok (.iadd, 1) := dk_96 (dk_at dksJ15_newLength_0 6 rfl rfl)
theorem dJ15_newLength_7 : decode cJ15_newLength 7 = .ok (.istore_n 3, 1) := dk_62 (dk_at dksJ15_newLength_0 7 rfl rfl)
theorem dJ15_newLength_8 : decode cJ15_newLength 8 = .ok (.iconst 0, 1) := dk_3 (dk_at dksJ15_newLength_0 8 rfl rfl)
theorem dJ15_newLength_9 : decode cJ15_newLength 9 = .ok (.iload_n 3, 1) := dk_29 (dk_at dksJ15_newLength_0 9 rfl rfl)
theorem dJ15_newLength_10 : decode cJ15_newLength 10 = .ok (.if_icmp .ge 11, 3) := dk_162 0 11 (dk_at dksJ15_newLength_0 10 rfl rfl)
theorem dJ15_newLength_13 : decode cJ15_newLength 13 = .ok (.iload_n 3, 1) := dk_29 (dk_at dksJ15_newLength_0 13 rfl rfl)
theorem dJ15_newLength_14 : decode cJ15_newLength 14 = .ok (.ldc 200, 2) := dk_18 200 (dk_at dksJ15_newLength_0 14 rfl rfl)
theorem dJ15_newLength_16 : decode cJ15_newLength 16 = .ok (.if_icmp .gt 5, 3) := dk_163 0 5 (dk_at dksJ15_newLength_0 16 rfl rfl)
theorem dJ15_newLength_19 : decode cJ15_newLength 19 = .ok (.iload_n 3, 1) := dk_29 (dk_at dksJ15_newLength_0 19 rfl rfl)
theorem dJ15_newLength_20 : decode cJ15_newLength 20 = .ok (.ireturn, 1) := dk_172 (dk_at dksJ15_newLength_0 20 rfl rfl)
theorem dJ15_newLength_21 : decode cJ15_newLength 21 = .ok (.iload_n 0, 1) := dk_26 (dk_at dksJ15_newLength_0 21 rfl rfl)
theorem dJ15_newLength_22 : decode cJ15_newLength 22 = .ok (.iload_n 1, 1) := dk_27 (dk_at dksJ15_newLength_0 22 rfl rfl)
theorem dJ15_newLength_23 : decode cJ15_newLength 23 = .ok (.invokestatic 201, 3) := dk_184 0 201 (dk_at dksJ15_newLength_1 0 rfl rfl)
theorem dJ15_newLength_26 : decode cJ15_newLength 26 = .ok (.ireturn, 1) := dk_172 (dk_at dksJ15_newLength_1 3 rfl rfl)
abbrev cJ15_hugeLength : ByteArray := prog_46_method_28_code
def yJ15_hugeLength : MethodName := ⟨RJ15, "hugeLength", "(II)I"⟩
def dkwJ15_hugeLength_2 : List UInt8 := [191, 28, 18, 200, 163, 0, 6, 18, 200, 172, 28, 172]
abbrev dktJ15_hugeLength_2 : List UInt8 := dkwJ15_hugeLength_2 ++ []
def dkwJ15_hugeLength_1 : List UInt8 := [26, 182, 0, 98, 18, 208, 182, 0, 94, 27, 182, 0, 98, 18, 210, 182, 0, 94, 182, 0, 101, 183, 0, 212]
abbrev dktJ15_hugeLength_1 : List UInt8 := dkwJ15_hugeLength_1 ++ dktJ15_hugeLength_2
def dkwJ15_hugeLength_0 : List UInt8 := [26, 27, 96, 61, 28, 156, 0, 44, 187, 0, 204, 89, 187, 0, 89, 89, 183, 0, 91, 18, 206, 182, 0, 94]
abbrev dktJ15_hugeLength_0 : List UInt8 := dkwJ15_hugeLength_0 ++ dktJ15_hugeLength_1
theorem dksJ15_hugeLength_0 : cJ15_hugeLength.data.toList.drop 0 = dktJ15_hugeLength_0 := by decide +kernel
theorem dksJ15_hugeLength_1 : cJ15_hugeLength.data.toList.drop 24 = dktJ15_hugeLength_1 := dk_seg dksJ15_hugeLength_0 24 rfl rfl
theorem dksJ15_hugeLength_2 : cJ15_hugeLength.data.toList.drop 48 = dktJ15_hugeLength_2 := dk_seg dksJ15_hugeLength_1 24 rfl rfl
theorem dJ15_hugeLength_0 : decode cJ15_hugeLength 0 = .ok (.iload_n 0, 1) := dk_26 (dk_at dksJ15_hugeLength_0 0 rfl rfl)
theorem dJ15_hugeLength_1 : decode cJ15_hugeLength 1 = .ok (.iload_n 1, 1) := dk_27 (dk_at dksJ15_hugeLength_0 1 rfl rfl)
theorem dJ15_hugeLength_2 : decode cJ15_hugeLength 2 = .ok (.iadd, 1) := dk_96 (dk_at dksJ15_hugeLength_0 2 rfl rfl)
theorem dJ15_hugeLength_3 : decode cJ15_hugeLength 3 = .ok (.istore_n 2, 1) := dk_61 (dk_at dksJ15_hugeLength_0 3 rfl rfl)
theorem dJ15_hugeLength_4 : decode cJ15_hugeLength 4 = .ok (.iload_n 2, 1) := dk_28 (dk_at dksJ15_hugeLength_0 4 rfl rfl)
theorem dJ15_hugeLength_5 : decode cJ15_hugeLength 5 = .ok (.ifCond .ge 44, 3) := dk_156 0 44 (dk_at dksJ15_hugeLength_0 5 rfl rfl)
theorem dJ15_hugeLength_8 : decode cJ15_hugeLength 8 = .ok (.new 204, 3) := dk_187 0 204 (dk_at dksJ15_hugeLength_0 8 rfl rfl)
theorem dJ15_hugeLength_11 : decode cJ15_hugeLength 11 = .ok (.dup, 1) := dk_89 (dk_at dksJ15_hugeLength_0 11 rfl rfl)
theorem dJ15_hugeLength_12 : decode cJ15_hugeLength 12 = .ok (.new 89, 3) := dk_187 0 89 (dk_at dksJ15_hugeLength_0 12 rfl rfl)
theorem dJ15_hugeLength_15 : decode cJ15_hugeLength 15 = .ok (.dup, 1) := dk_89 (dk_at dksJ15_hugeLength_0 15 rfl rfl)
theorem dJ15_hugeLength_16 : decode cJ15_hugeLength 16 = .ok (.invokespecial 91, 3) := dk_183 0 91 (dk_at dksJ15_hugeLength_0 16 rfl rfl)
theorem dJ15_hugeLength_19 : decode cJ15_hugeLength 19 = .ok (.ldc 206, 2) := dk_18 206 (dk_at dksJ15_hugeLength_0 19 rfl rfl)
theorem dJ15_hugeLength_21 : decode cJ15_hugeLength 21 = .ok (.invokevirtual 94, 3) := dk_182 0 94 (dk_at dksJ15_hugeLength_0 21 rfl rfl)
theorem dJ15_hugeLength_24 : decode cJ15_hugeLength 24 = .ok (.iload_n 0, 1) := dk_26 (dk_at dksJ15_hugeLength_1 0 rfl rfl)
theorem dJ15_hugeLength_25 : decode cJ15_hugeLength 25 = .ok (.invokevirtual 98, 3) := dk_182 0 98 (dk_at dksJ15_hugeLength_1 1 rfl rfl)
theorem dJ15_hugeLength_28 : decode cJ15_hugeLength 28 = .ok (.ldc 208, 2) := dk_18 208 (dk_at dksJ15_hugeLength_1 4 rfl rfl)
theorem dJ15_hugeLength_30 : decode cJ15_hugeLength 30 = .ok (.invokevirtual 94, 3) := dk_182 0 94 (dk_at dksJ15_hugeLength_1 6 rfl rfl)
theorem dJ15_hugeLength_33 : decode cJ15_hugeLength 33 = .ok (.iload_n 1, 1) := dk_27 (dk_at dksJ15_hugeLength_1 9 rfl rfl)
theorem dJ15_hugeLength_34 : decode cJ15_hugeLength 34 = .ok (.invokevirtual 98, 3) := dk_182 0 98 (dk_at dksJ15_hugeLength_1 10 rfl rfl)
theorem dJ15_hugeLength_37 : decode cJ15_hugeLength 37 = .ok (.ldc 210, 2) := dk_18 210 (dk_at dksJ15_hugeLength_1 13 rfl rfl)
theorem dJ15_hugeLength_39 : decode cJ15_hugeLength 39 = .ok (.invokevirtual 94, 3) := dk_182 0 94 (dk_at dksJ15_hugeLength_1 15 rfl rfl)
theorem dJ15_hugeLength_42 : decode cJ15_hugeLength 42 = .ok (.invokevirtual 101, 3) := dk_182 0 101 (dk_at dksJ15_hugeLength_1 18 rfl rfl)
theorem dJ15_hugeLength_45 : decode cJ15_hugeLength 45 = .ok (.invokespecial 212, 3) := dk_183 0 212 (dk_at dksJ15_hugeLength_1 21 rfl rfl)
theorem dJ15_hugeLength_48 : decode cJ15_hugeLength 48 = .ok (.athrow, 1) := dk_191 (dk_at dksJ15_hugeLength_2 0 rfl rfl)
theorem dJ15_hugeLength_49 : decode cJ15_hugeLength 49 = .ok (.iload_n 2, 1) := dk_28 (dk_at dksJ15_hugeLength_2 1 rfl rfl)
theorem dJ15_hugeLength_50 : decode cJ15_hugeLength 50 = .ok (.ldc 200, 2) := dk_18 200 (dk_at dksJ15_hugeLength_2 2 rfl rfl)
theorem dJ15_hugeLength_52 : decode cJ15_hugeLength 52 = .ok (.if_icmp .gt 6, 3) := dk_163 0 6 (dk_at dksJ15_hugeLength_2 4 rfl rfl)
theorem dJ15_hugeLength_55 : decode cJ15_hugeLength 55 = .ok (.ldc 200, 2) := dk_18 200 (dk_at dksJ15_hugeLength_2 7 rfl rfl)
theorem dJ15_hugeLength_57 : decode cJ15_hugeLength 57 = .ok (.ireturn, 1) := dk_172 (dk_at dksJ15_hugeLength_2 9 rfl rfl)
theorem dJ15_hugeLength_58 : decode cJ15_hugeLength 58 = .ok (.iload_n 2, 1) := dk_28 (dk_at dksJ15_hugeLength_2 10 rfl rfl)
theorem dJ15_hugeLength_59 : decode cJ15_hugeLength 59 = .ok (.ireturn, 1) := dk_172 (dk_at dksJ15_hugeLength_2 11 rfl rfl)
theorem q159 : (Jvm.Cond.initialized "jdk/internal/util/ArraysSupport") ∈ lw_all := lw_g (lw_at lw_m1 25 rfl) rfl
theorem q377 : (Jvm.Cond.static ({ cls := "jdk/internal/util/ArraysSupport", name := "newLength", desc := "(III)I" } : Jvm.MethodName)) ∈ lw_all := lw_g (lw_at lw_m2 3 rfl) rfl
theorem q378 : (Jvm.Cond.code ({ cls := "jdk/internal/util/ArraysSupport", name := "newLength", desc := "(III)I" } : Jvm.MethodName) prog_46_method_27_code (4 : Nat) (Option.some Jvm.ClassFile.FieldType.int)) ∈ lw_all := lw_g (lw_at lw_m2 4 rfl) rfl
theorem q379 : (Jvm.Cond.methodLink "jdk/internal/util/ArraysSupport" (194 : Nat) ({ cls := "java/lang/Math", name := "max", desc := "(II)I" } : Jvm.MethodName)) ∈ lw_all := lw_g (lw_at lw_m2 5 rfl) rfl
theorem q382 : (Jvm.Cond.constant "jdk/internal/util/ArraysSupport" (200 : Nat) (2147483639 : Int32)) ∈ lw_all := lw_g (lw_at lw_m2 8 rfl) rfl
theorem q383 : (Jvm.Cond.methodLink "jdk/internal/util/ArraysSupport" (201 : Nat) ({ cls := "jdk/internal/util/ArraysSupport", name := "hugeLength", desc := "(II)I" } : Jvm.MethodName)) ∈ lw_all := lw_g (lw_at lw_m2 9 rfl) rfl
theorem q384 : (Jvm.Cond.static ({ cls := "jdk/internal/util/ArraysSupport", name := "hugeLength", desc := "(II)I" } : Jvm.MethodName)) ∈ lw_all := lw_g (lw_at lw_m2 10 rfl) rfl
theorem q385 : (Jvm.Cond.code ({ cls := "jdk/internal/util/ArraysSupport", name := "hugeLength", desc := "(II)I" } : Jvm.MethodName) prog_46_method_28_code (3 : Nat) (Option.some Jvm.ClassFile.FieldType.int)) ∈ lw_all := lw_g (lw_at lw_m2 11 rfl) rfl

/-! java/util/Arrays -/
set_option maxRecDepth 100000
def RJ16 : String := "java/util/Arrays"
abbrev cJ16_copyOf : ByteArray := prog_39_method_119_code
def yJ16_copyOf : MethodName := ⟨RJ16, "copyOf", "([Ljava/lang/Object;I)[Ljava/lang/Object;"⟩
def dkwJ16_copyOf_0 : List UInt8 := [42, 27, 42, 182, 0, 86, 184, 1, 44, 176]
abbrev dktJ16_copyOf_0 : List UInt8 := dkwJ16_copyOf_0 ++ []
theorem dksJ16_copyOf_0 : cJ16_copyOf.data.toList.drop 0 = dktJ16_copyOf_0 := by decide +kernel
theorem dJ16_copyOf_0 : decode cJ16_copyOf 0 = .ok (.aload_n 0, 1) := dk_42 (dk_at dksJ16_copyOf_0 0 rfl rfl)
theorem dJ16_copyOf_1 : decode cJ16_copyOf 1 = .ok (.iload_n 1, 1) := dk_27 (dk_at dksJ16_copyOf_0 1 rfl rfl)
theorem dJ16_copyOf_2 : decode cJ16_copyOf 2 = .ok (.aload_n 0, 1) := dk_42 (dk_at dksJ16_copyOf_0 2 rfl rfl)
theorem dJ16_copyOf_3 : decode cJ16_copyOf 3 = .ok (.invokevirtual 86, 3) := dk_182 0 86 (dk_at dksJ16_copyOf_0 3 rfl rfl)
theorem dJ16_copyOf_6 : decode cJ16_copyOf 6 = .ok (.invokestatic 300, 3) := dk_184 1 44 (dk_at dksJ16_copyOf_0 6 rfl rfl)
theorem dJ16_copyOf_9 : decode cJ16_copyOf 9 = .ok (.areturn, 1) := dk_176 (dk_at dksJ16_copyOf_0 9 rfl rfl)
abbrev cJ16_copyOf_2 : ByteArray := prog_39_method_120_code
def yJ16_copyOf_2 : MethodName := ⟨RJ16, "copyOf", "([Ljava/lang/Object;ILjava/lang/Class;)[Ljava/lang/Object;"⟩
def dkwJ16_copyOf_2_1 : List UInt8 := [78, 42, 3, 45, 3, 42, 190, 27, 184, 1, 48, 184, 0, 150, 45, 176]
abbrev dktJ16_copyOf_2_1 : List UInt8 := dkwJ16_copyOf_2_1 ++ []
def dkwJ16_copyOf_2_0 : List UInt8 := [44, 18, 110, 166, 0, 10, 27, 189, 0, 2, 167, 0, 14, 44, 182, 0, 90, 27, 184, 0, 95, 192, 0, 110]
abbrev dktJ16_copyOf_2_0 : List UInt8 := dkwJ16_copyOf_2_0 ++ dktJ16_copyOf_2_1
theorem dksJ16_copyOf_2_0 : cJ16_copyOf_2.data.toList.drop 0 = dktJ16_copyOf_2_0 := by decide +kernel
theorem dksJ16_copyOf_2_1 : cJ16_copyOf_2.data.toList.drop 24 = dktJ16_copyOf_2_1 := dk_seg dksJ16_copyOf_2_0 24 rfl rfl
theorem dJ16_copyOf_2_0 : decode cJ16_copyOf_2 0 = .ok (.aload_n 2, 1) := dk_44 (dk_at dksJ16_copyOf_2_0 0 rfl rfl)
theorem dJ16_copyOf_2_1 : decode cJ16_copyOf_2 1 = .ok (.ldc 110, 2) := dk_18 110 (dk_at dksJ16_copyOf_2_0 1 rfl rfl)
theorem dJ16_copyOf_2_3 : decode cJ16_copyOf_2 3 = .ok (.if_acmp .ne 10, 3) := dk_166 0 10 (dk_at dksJ16_copyOf_2_0 3 rfl rfl)
theorem dJ16_copyOf_2_6 : decode cJ16_copyOf_2 6 = .ok (.iload_n 1, 1) := dk_27 (dk_at dksJ16_copyOf_2_0 6 rfl rfl)
theorem dJ16_copyOf_2_7 : decode cJ16_copyOf_2 7 = .ok (.anewarray 2, 3) := dk_189 0 2 (dk_at dksJ16_copyOf_2_0 7 rfl rfl)
theorem dJ16_copyOf_2_10 : decode cJ16_copyOf_2 10 = .ok (.goto 14, 3) := dk_167 0 14 (dk_at dksJ16_copyOf_2_0 10 rfl rfl)
theorem dJ16_copyOf_2_13 : decode cJ16_copyOf_2 13 = .ok (.aload_n 2, 1) := dk_44 (dk_at dksJ16_copyOf_2_0 13 rfl rfl)
theorem dJ16_copyOf_2_14 : decode cJ16_copyOf_2 14 = .ok (.invokevirtual 90, 3) := dk_182 0 90 (dk_at dksJ16_copyOf_2_0 14 rfl rfl)
theorem dJ16_copyOf_2_17 : decode cJ16_copyOf_2 17 = .ok (.iload_n 1, 1) := dk_27 (dk_at dksJ16_copyOf_2_0 17 rfl rfl)
theorem dJ16_copyOf_2_18 : decode cJ16_copyOf_2 18 = .ok (.invokestatic 95, 3) := dk_184 0 95 (dk_at dksJ16_copyOf_2_0 18 rfl rfl)
theorem dJ16_copyOf_2_21 : decode cJ16_copyOf_2 21 = .ok (.checkcast 110, 3) := dk_192 0 110 (dk_at dksJ16_copyOf_2_0 21 rfl rfl)
theorem dJ16_copyOf_2_24 : decode cJ16_copyOf_2 24 = .ok (.astore_n 3, 1) := dk_78 (dk_at dksJ16_copyOf_2_1 0 rfl rfl)
theorem dJ16_copyOf_2_25 : decode cJ16_copyOf_2 25 = .ok (.aload_n 0, 1) := dk_42 (dk_at dksJ16_copyOf_2_1 1 rfl rfl)
theorem dJ16_copyOf_2_26 : decode cJ16_copyOf_2 26 = .ok (.iconst 0, 1) := dk_3 (dk_at dksJ16_copyOf_2_1 2 rfl rfl)
theorem dJ16_copyOf_2_27 : decode cJ16_copyOf_2 27 = .ok (.aload_n 3, 1) := dk_45 (dk_at dksJ16_copyOf_2_1 3 rfl rfl)
theorem dJ16_copyOf_2_28 : decode cJ16_copyOf_2 28 = .ok (.iconst 0, 1) := dk_3 (dk_at dksJ16_copyOf_2_1 4 rfl rfl)
theorem dJ16_copyOf_2_29 : decode cJ16_copyOf_2 29 = .ok (.aload_n 0, 1) := dk_42 (dk_at dksJ16_copyOf_2_1 5 rfl rfl)
theorem dJ16_copyOf_2_30 : decode cJ16_copyOf_2 30 = .ok (.arraylength, 1) := dk_190 (dk_at dksJ16_copyOf_2_1 6 rfl rfl)
theorem dJ16_copyOf_2_31 : decode cJ16_copyOf_2 31 = .ok (.iload_n 1, 1) := dk_27 (dk_at dksJ16_copyOf_2_1 7 rfl rfl)
theorem dJ16_copyOf_2_32 : decode cJ16_copyOf_2 32 = .ok (.invokestatic 304, 3) := dk_184 1 48 (dk_at dksJ16_copyOf_2_1 8 rfl rfl)
theorem dJ16_copyOf_2_35 : decode cJ16_copyOf_2 35 = .ok (.invokestatic 150, 3) := dk_184 0 150 (dk_at dksJ16_copyOf_2_1 11 rfl rfl)
theorem dJ16_copyOf_2_38 : decode cJ16_copyOf_2 38 = .ok (.aload_n 3, 1) := dk_45 (dk_at dksJ16_copyOf_2_1 14 rfl rfl)
theorem dJ16_copyOf_2_39 : decode cJ16_copyOf_2 39 = .ok (.areturn, 1) := dk_176 (dk_at dksJ16_copyOf_2_1 15 rfl rfl)
abbrev cJ16_copyOf_3 : ByteArray := prog_39_method_121_code
def yJ16_copyOf_3 : MethodName := ⟨RJ16, "copyOf", "([BI)[B"⟩
def dkwJ16_copyOf_3_1 : List UInt8 := [27, 184, 1, 48, 184, 0, 150, 44, 176]
abbrev dktJ16_copyOf_3_1 : List UInt8 := dkwJ16_copyOf_3_1 ++ []
def dkwJ16_copyOf_3_0 : List UInt8 := [27, 42, 190, 160, 0, 11, 42, 182, 1, 54, 192, 1, 55, 176, 27, 188, 8, 77, 42, 3, 44, 3, 42, 190]
abbrev dktJ16_copyOf_3_0 : List UInt8 := dkwJ16_copyOf_3_0 ++ dktJ16_copyOf_3_1
theorem dksJ16_copyOf_3_0 : cJ16_copyOf_3.data.toList.drop 0 = dktJ16_copyOf_3_0 := by decide +kernel
theorem dksJ16_copyOf_3_1 : cJ16_copyOf_3.data.toList.drop 24 = dktJ16_copyOf_3_1 := dk_seg dksJ16_copyOf_3_0 24 rfl rfl
theorem dJ16_copyOf_3_0 : decode cJ16_copyOf_3 0 = .ok (.iload_n 1, 1) := dk_27 (dk_at dksJ16_copyOf_3_0 0 rfl rfl)
theorem dJ16_copyOf_3_1 : decode cJ16_copyOf_3 1 = .ok (.aload_n 0, 1) := dk_42 (dk_at dksJ16_copyOf_3_0 1 rfl rfl)
theorem dJ16_copyOf_3_2 : decode cJ16_copyOf_3 2 = .ok (.arraylength, 1) := dk_190 (dk_at dksJ16_copyOf_3_0 2 rfl rfl)
theorem dJ16_copyOf_3_3 : decode cJ16_copyOf_3 3 = .ok (.if_icmp .ne 11, 3) := dk_160 0 11 (dk_at dksJ16_copyOf_3_0 3 rfl rfl)
theorem dJ16_copyOf_3_6 : decode cJ16_copyOf_3 6 = .ok (.aload_n 0, 1) := dk_42 (dk_at dksJ16_copyOf_3_0 6 rfl rfl)
theorem dJ16_copyOf_3_7 : decode cJ16_copyOf_3 7 = .ok (.invokevirtual 310, 3) := dk_182 1 54 (dk_at dksJ16_copyOf_3_0 7 rfl rfl)
theorem dJ16_copyOf_3_10 : decode cJ16_copyOf_3 10 = .ok (.checkcast 311, 3) := dk_192 1 55 (dk_at dksJ16_copyOf_3_0 10 rfl rfl)
theorem dJ16_copyOf_3_13 : decode cJ16_copyOf_3 13 = .ok (.areturn, 1) := dk_176 (dk_at dksJ16_copyOf_3_0 13 rfl rfl)
theorem dJ16_copyOf_3_14 : decode cJ16_copyOf_3 14 = .ok (.iload_n 1, 1) := dk_27 (dk_at dksJ16_copyOf_3_0 14 rfl rfl)
theorem dJ16_copyOf_3_15 : decode cJ16_copyOf_3 15 = .ok (.newarray .byte, 2) := dk_188_8 (dk_at dksJ16_copyOf_3_0 15 rfl rfl)
theorem dJ16_copyOf_3_17 : decode cJ16_copyOf_3 17 = .ok (.astore_n 2, 1) := dk_77 (dk_at dksJ16_copyOf_3_0 17 rfl rfl)
theorem dJ16_copyOf_3_18 : decode cJ16_copyOf_3 18 = .ok (.aload_n 0, 1) := dk_42 (dk_at dksJ16_copyOf_3_0 18 rfl rfl)
theorem dJ16_copyOf_3_19 : decode cJ16_copyOf_3 19 = .ok (.iconst 0, 1) := dk_3 (dk_at dksJ16_copyOf_3_0 19 rfl rfl)
theorem dJ16_copyOf_3_20 : decode cJ16_copyOf_3 20 = .ok (.aload_n 2, 1) := dk_44 (dk_at dksJ16_copyOf_3_0 20 rfl rfl)
theorem dJ16_copyOf_3_21 : decode cJ16_copyOf_3 21 = .ok (.iconst 0, 1) := dk_3 (dk_at dksJ16_copyOf_3_0 21 rfl rfl)
theorem dJ16_copyOf_3_22 : decode cJ16_copyOf_3 22 = .ok (.aload_n 0, 1) := dk_42 (dk_at dksJ16_copyOf_3_0 22 rfl rfl)
theorem dJ16_copyOf_3_23 : decode cJ16_copyOf_3 23 = .ok (.arraylength, 1) := dk_190 (dk_at dksJ16_copyOf_3_0 23 rfl rfl)
theorem dJ16_copyOf_3_24 : decode cJ16_copyOf_3 24 = .ok (.iload_n 1, 1) := dk_27 (dk_at dksJ16_copyOf_3_1 0 rfl rfl)
theorem dJ16_copyOf_3_25 : decode cJ16_copyOf_3 25 = .ok (.invokestatic 304, 3) := dk_184 1 48 (dk_at dksJ16_copyOf_3_1 1 rfl rfl)
theorem dJ16_copyOf_3_28 : decode cJ16_copyOf_3 28 = .ok (.invokestatic 150, 3) := dk_184 0 150 (dk_at dksJ16_copyOf_3_1 4 rfl rfl)
theorem dJ16_copyOf_3_31 : decode cJ16_copyOf_3 31 = .ok (.aload_n 2, 1) := dk_44 (dk_at dksJ16_copyOf_3_1 7 rfl rfl)
theorem dJ16_copyOf_3_32 : decode cJ16_copyOf_3 32 = .ok (.areturn, 1) := dk_176 (dk_at dksJ16_copyOf_3_1 8 rfl rfl)
theorem q160 : (Jvm.Cond.initialized "java/util/Arrays") ∈ lw_all := lw_g (lw_at lw_m1 26 rfl) rfl
theorem q387 : (Jvm.Cond.static ({ cls := "java/util/Arrays", name := "copyOf", desc := "([Ljava/lang/Object;I)[Ljava/lang/Object;" } : Jvm.MethodName)) ∈ lw_all := lw_g (lw_at lw_m2 13 rfl) rfl
theorem q388 : (Jvm.Cond.code ({ cls := "java/util/Arrays", name := "copyOf", desc := "([Ljava/lang/Object;I)[Ljava/lang/Object;" } : Jvm.MethodName) prog_39_method_119_code (2 : Nat) (Option.some (Jvm.ClassFile.FieldType.array (Jvm.ClassFile.FieldType.object "java/lang/Object")))) ∈ lw_all := lw_g (lw_at lw_m2 14 rfl) rfl
theorem q389 : (Jvm.Cond.methodLink "java/util/Arrays" (86 : Nat) ({ cls := "java/lang/Object", name := "getClass", desc := "()Ljava/lang/Class;" } : Jvm.MethodName)) ∈ lw_all := lw_g (lw_at lw_m2 15 rfl) rfl
theorem q408 : (Jvm.Cond.methodLink "java/util/Arrays" (300 : Nat) ({ cls := "java/util/Arrays", name := "copyOf", desc := "([Ljava/lang/Object;ILjava/lang/Class;)[Ljava/lang/Object;" } : Jvm.MethodName)) ∈ lw_all := lw_g (lw_at lw_m2 34 rfl) rfl
theorem q409 : (Jvm.Cond.static ({ cls := "java/util/Arrays", name := "copyOf", desc := "([Ljava/lang/Object;ILjava/lang/Class;)[Ljava/lang/Object;" } : Jvm.MethodName)) ∈ lw_all := lw_g (lw_at lw_m2 35 rfl) rfl
theorem q410 : (Jvm.Cond.code ({ cls := "java/util/Arrays", name := "copyOf", desc := "([Ljava/lang/Object;ILjava/lang/Class;)[Ljava/lang/Object;" } : Jvm.MethodName) prog_39_method_120_code (4 : Nat) (Option.some (Jvm.ClassFile.FieldType.array (Jvm.ClassFile.FieldType.object "java/lang/Object")))) ∈ lw_all := lw_g (lw_at lw_m2 36 rfl) rfl
theorem q411 : (Jvm.Cond.classLink "java/util/Arrays" (110 : Nat) "[Ljava/lang/Object;") ∈ lw_all := lw_g (lw_at lw_m2 37 rfl) rfl
theorem q413 : (Jvm.Cond.classLink "java/util/Arrays" (2 : Nat) "java/lang/Object") ∈ lw_all := lw_g (lw_at lw_m2 39 rfl) rfl
theorem q414 : (Jvm.Cond.methodLink "java/util/Arrays" (304 : Nat) ({ cls := "java/lang/Math", name := "min", desc := "(II)I" } : Jvm.MethodName)) ∈ lw_all := lw_g (lw_at lw_m2 40 rfl) rfl
theorem q417 : (Jvm.Cond.methodLink "java/util/Arrays" (150 : Nat) ({ cls := "java/lang/System", name := "arraycopy", desc := "(Ljava/lang/Object;ILjava/lang/Object;II)V" } : Jvm.MethodName)) ∈ lw_all := lw_g (lw_at lw_m2 43 rfl) rfl
theorem q1109 : (Jvm.Cond.static ({ cls := "java/util/Arrays", name := "copyOf", desc := "([BI)[B" } : Jvm.MethodName)) ∈ lw_all := lw_g (lw_at lw_m5 15 rfl) rfl
theorem q1110 : (Jvm.Cond.code ({ cls := "java/util/Arrays", name := "copyOf", desc := "([BI)[B" } : Jvm.MethodName) prog_39_method_121_code (3 : Nat) (Option.some (Jvm.ClassFile.FieldType.array Jvm.ClassFile.FieldType.byte))) ∈ lw_all := lw_g (lw_at lw_m5 16 rfl) rfl
theorem q1111 : (Jvm.Cond.methodLink "java/util/Arrays" (310 : Nat) ({ cls := "[B", name := "clone", desc := "()Ljava/lang/Object;" } : Jvm.MethodName)) ∈ lw_all := lw_g (lw_at lw_m5 17 rfl) rfl
theorem q1117 : (Jvm.Cond.classLink "java/util/Arrays" (311 : Nat) "[B") ∈ lw_all := lw_g (lw_at lw_m5 23 rfl) rfl

/-! java/util/Objects -/
set_option maxRecDepth 100000
def RJ17 : String := "java/util/Objects"
abbrev cJ17_checkIndex : ByteArray := prog_43_method_17_code
def yJ17_checkIndex : MethodName := ⟨RJ17, "checkIndex", "(II)I"⟩
def dkwJ17_checkIndex_0 : List UInt8 := [26, 27, 1, 184, 0, 105, 172]
abbrev dktJ17_checkIndex_0 : List UInt8 := dkwJ17_checkIndex_0 ++ []
theorem dksJ17_checkIndex_0 : cJ17_checkIndex.data.toList.drop 0 = dktJ17_checkIndex_0 := by decide +kernel
theorem dJ17_checkIndex_0 : decode cJ17_checkIndex 0 = .ok (.iload_n 0, 1) := dk_26 (dk_at dksJ17_checkIndex_0 0 rfl rfl)
theorem dJ17_checkIndex_1 : decode cJ17_checkIndex 1 = .ok (.iload_n 1, 1) := dk_27 (dk_at dksJ17_checkIndex_0 1 rfl rfl)
theorem dJ17_checkIndex_2 : decode cJ17_checkIndex 2 = .ok (.aconst_null, 1) := dk_1 (dk_at dksJ17_checkIndex_0 2 rfl rfl)
theorem dJ17_checkIndex_3 : decode cJ17_checkIndex 3 = .ok (.invokestatic 105, 3) := dk_184 0 105 (dk_at dksJ17_checkIndex_0 3 rfl rfl)
theorem dJ17_checkIndex_6 : decode cJ17_checkIndex 6 = .ok (.ireturn, 1) := dk_172 (dk_at dksJ17_checkIndex_0 6 rfl rfl)
theorem q162 : (Jvm.Cond.initialized "java/util/Objects") ∈ lw_all := lw_g (lw_at lw_m1 28 rfl) rfl
theorem q441 : (Jvm.Cond.static ({ cls := "java/util/Objects", name := "checkIndex", desc := "(II)I" } : Jvm.MethodName)) ∈ lw_all := lw_g (lw_at lw_m2 67 rfl) rfl
theorem q442 : (Jvm.Cond.code ({ cls := "java/util/Objects", name := "checkIndex", desc := "(II)I" } : Jvm.MethodName) prog_43_method_17_code (2 : Nat) (Option.some Jvm.ClassFile.FieldType.int)) ∈ lw_all := lw_g (lw_at lw_m2 68 rfl) rfl
theorem q443 : (Jvm.Cond.methodLink "java/util/Objects" (105 : Nat) ({ cls := "jdk/internal/util/Preconditions", name := "checkIndex", desc := "(IILjava/util/function/BiFunction;)I" } : Jvm.MethodName)) ∈ lw_all := lw_g (lw_at lw_m2 69 rfl) rfl

/-! java/lang/Number -/
set_option maxRecDepth 100000
def RJ18 : String := "java/lang/Number"
abbrev cJ18_init : ByteArray := prog_26_method_1_code
def yJ18_init : MethodName := ⟨RJ18, "<init>", "()V"⟩
theorem dJ18_init_0 : decode cJ18_init 0 = .ok (.aload_n 0, 1) := by decide +kernel
theorem dJ18_init_1 : decode cJ18_init 1 = .ok (.invokespecial 1, 3) := by decide +kernel
theorem dJ18_init_4 : decode cJ18_init 4 = .ok (.return_, 1) := by decide +kernel
theorem q164 : (Jvm.Cond.initialized "java/lang/Number") ∈ lw_all := lw_g (lw_at lw_m1 30 rfl) rfl
theorem q1198 : (Jvm.Cond.instanceMethod ({ cls := "java/lang/Number", name := "<init>", desc := "()V" } : Jvm.MethodName)) ∈ lw_all := lw_g (lw_at lw_m5 104 rfl) rfl
theorem q1199 : (Jvm.Cond.code ({ cls := "java/lang/Number", name := "<init>", desc := "()V" } : Jvm.MethodName) prog_26_method_1_code (1 : Nat) (Option.none : Option Jvm.ClassFile.FieldType)) ∈ lw_all := lw_g (lw_at lw_m5 105 rfl) rfl
theorem q1200 : (Jvm.Cond.methodLink "java/lang/Number" (1 : Nat) ({ cls := "java/lang/Object", name := "<init>", desc := "()V" } : Jvm.MethodName)) ∈ lw_all := lw_g (lw_at lw_m5 106 rfl) rfl

/-! java/lang/Integer -/
set_option maxRecDepth 100000
def RJ19 : String := "java/lang/Integer"
def TJ19 : u_T := fun k => match k with
  | _ => ("java/lang/Integer", "value", "I", true)
def tyJ19 : Nat → FieldType := fun k => match k with
  | _ => .int
abbrev wsJ190 : List Cond := u_ws RJ19 TJ19 1
theorem nmJ19 : ∀ a, a < 1 → ∀ b, b < 1 → a ≠ b → (TJ19 a).2.1 ≠ (TJ19 b).2.1 := by decide +kernel
theorem tyJ19_ok : ∀ k, k < 1 → parseFieldDescriptor (TJ19 k).2.2.1 = some (tyJ19 k) := by decide +kernel
abbrev cJ19_intValue : ByteArray := prog_22_method_27_code
def yJ19_intValue : MethodName := ⟨RJ19, "intValue", "()I"⟩
theorem dJ19_intValue_0 : decode cJ19_intValue 0 = .ok (.aload_n 0, 1) := by decide +kernel
theorem dJ19_intValue_1 : decode cJ19_intValue 1 = .ok (.getfield 205, 3) := by decide +kernel
theorem dJ19_intValue_4 : decode cJ19_intValue 4 = .ok (.ireturn, 1) := by decide +kernel
abbrev cJ19_bitCount : ByteArray := prog_22_method_49_code
def yJ19_bitCount : MethodName := ⟨RJ19, "bitCount", "(I)I"⟩
def dkwJ19_bitCount_2 : List UInt8 := [26, 16, 63, 126, 172]
abbrev dktJ19_bitCount_2 : List UInt8 := dkwJ19_bitCount_2 ++ []
def dkwJ19_bitCount_1 : List UInt8 := [26, 26, 7, 124, 96, 19, 1, 11, 126, 59, 26, 26, 16, 8, 124, 96, 59, 26, 26, 16, 16, 124, 96, 59]
abbrev dktJ19_bitCount_1 : List UInt8 := dkwJ19_bitCount_1 ++ dktJ19_bitCount_2
def dkwJ19_bitCount_0 : List UInt8 := [26, 26, 4, 124, 19, 1, 9, 126, 100, 59, 26, 19, 1, 10, 126, 26, 5, 124, 19, 1, 10, 126, 96, 59]
abbrev dktJ19_bitCount_0 : List UInt8 := dkwJ19_bitCount_0 ++ dktJ19_bitCount_1
theorem dksJ19_bitCount_0 : cJ19_bitCount.data.toList.drop 0 = dktJ19_bitCount_0 := by decide +kernel
theorem dksJ19_bitCount_1 : cJ19_bitCount.data.toList.drop 24 = dktJ19_bitCount_1 := dk_seg dksJ19_bitCount_0 24 rfl rfl
theorem dksJ19_bitCount_2 : cJ19_bitCount.data.toList.drop 48 = dktJ19_bitCount_2 := dk_seg dksJ19_bitCount_1 24 rfl rfl
theorem dJ19_bitCount_0 : decode cJ19_bitCount 0 = .ok (.iload_n 0, 1) := dk_26 (dk_at dksJ19_bitCount_0 0 rfl rfl)
theorem dJ19_bitCount_1 : decode cJ19_bitCount 1 = .ok (.iload_n 0, 1) := dk_26 (dk_at dksJ19_bitCount_0 1 rfl rfl)
theorem dJ19_bitCount_2 : decode cJ19_bitCount 2 = .ok (.iconst 1, 1) := dk_4 (dk_at dksJ19_bitCount_0 2 rfl rfl)
theorem dJ19_bitCount_3 : decode cJ19_bitCount 3 = .ok (.iushr, 1) := dk_124 (dk_at dksJ19_bitCount_0 3 rfl rfl)
theorem dJ19_bitCount_4 : decode cJ19_bitCount 4 = .ok (.ldc_w 265, 3) := dk_19 1 9 (dk_at dksJ19_bitCount_0 4 rfl rfl)
theorem dJ19_bitCount_7 : decode cJ19_bitCount 7 = .ok (.iand, 1) := dk_126 (dk_at dksJ19_bitCount_0 7 rfl rfl)
theorem dJ19_bitCount_8 : decode cJ19_bitCount 8 = .ok (.isub, 1) := dk_100 (dk_at dksJ19_bitCount_0 8 rfl rfl)
theorem dJ19_bitCount_9 : decode cJ19_bitCount 9 = .ok (.istore_n 0, 1) := dk_59 (dk_at dksJ19_bitCount_0 9 rfl rfl)
theorem dJ19_bitCount_10 : decode cJ19_bitCount 10 = .ok (.iload_n 0, 1) := dk_26 (dk_at dksJ19_bitCount_0 10 rfl rfl)
theorem dJ19_bitCount_11 : decode cJ19_bitCount 11 = .ok (.ldc_w 266, 3) := dk_19 1 10 (dk_at dksJ19_bitCount_0 11 rfl rfl)
theorem dJ19_bitCount_14 : decode cJ19_bitCount 14 = .ok (.iand, 1) := dk_126 (dk_at dksJ19_bitCount_0 14 rfl rfl)
theorem dJ19_bitCount_15 : decode cJ19_bitCount 15 = .ok (.iload_n 0, 1) := dk_26 (dk_at dksJ19_bitCount_0 15 rfl rfl)
theorem dJ19_bitCount_16 : decode cJ19_bitCount 16 = .ok (.iconst 2, 1) := dk_5 (dk_at dksJ19_bitCount_0 16 rfl rfl)
theorem dJ19_bitCount_17 : decode cJ19_bitCount 17 = .ok (.iushr, 1) := dk_124 (dk_at dksJ19_bitCount_0 17 rfl rfl)
theorem dJ19_bitCount_18 : decode cJ19_bitCount 18 = .ok (.ldc_w 266, 3) := dk_19 1 10 (dk_at dksJ19_bitCount_0 18 rfl rfl)
theorem dJ19_bitCount_21 : decode cJ19_bitCount 21 = .ok (.iand, 1) := dk_126 (dk_at dksJ19_bitCount_0 21 rfl rfl)
theorem dJ19_bitCount_22 : decode cJ19_bitCount 22 = .ok (.iadd, 1) := dk_96 (dk_at dksJ19_bitCount_0 22 rfl rfl)
theorem dJ19_bitCount_23 : decode cJ19_bitCount 23 = .ok (.istore_n 0, 1) := dk_59 (dk_at dksJ19_bitCount_0 23 rfl rfl)
theorem dJ19_bitCount_24 : decode cJ19_bitCount 24 = .ok (.iload_n 0, 1) := dk_26 (dk_at dksJ19_bitCount_1 0 rfl rfl)
theorem dJ19_bitCount_25 : decode cJ19_bitCount 25 = .ok (.iload_n 0, 1) := dk_26 (dk_at dksJ19_bitCount_1 1 rfl rfl)
theorem dJ19_bitCount_26 : decode cJ19_bitCount 26 = .ok (.iconst 4, 1) := dk_7 (dk_at dksJ19_bitCount_1 2 rfl rfl)
theorem dJ19_bitCount_27 : decode cJ19_bitCount 27 = .ok (.iushr, 1) := dk_124 (dk_at dksJ19_bitCount_1 3 rfl rfl)
theorem dJ19_bitCount_28 : decode cJ19_bitCount 28 = .ok (.iadd, 1) := dk_96 (dk_at dksJ19_bitCount_1 4 rfl rfl)
theorem dJ19_bitCount_29 : decode cJ19_bitCount 29 = .ok (.ldc_w 267, 3) := dk_19 1 11 (dk_at dksJ19_bitCount_1 5 rfl rfl)
theorem dJ19_bitCount_32 : decode cJ19_bitCount 32 = .ok (.iand, 1) := dk_126 (dk_at dksJ19_bitCount_1 8 rfl rfl)
theorem dJ19_bitCount_33 : decode cJ19_bitCount 33 = .ok (.istore_n 0, 1) := dk_59 (dk_at dksJ19_bitCount_1 9 rfl rfl)
theorem dJ19_bitCount_34 : decode cJ19_bitCount 34 = .ok (.iload_n 0, 1) := dk_26 (dk_at dksJ19_bitCount_1 10 rfl rfl)
theorem dJ19_bitCount_35 : decode cJ19_bitCount 35 = .ok (.iload_n 0, 1) := dk_26 (dk_at dksJ19_bitCount_1 11 rfl rfl)
theorem dJ19_bitCount_36 : decode cJ19_bitCount 36 = .ok (.bipush 8, 2) := dk_16 8 (dk_at dksJ19_bitCount_1 12 rfl rfl)
theorem dJ19_bitCount_38 : decode cJ19_bitCount 38 = .ok (.iushr, 1) := dk_124 (dk_at dksJ19_bitCount_1 14 rfl rfl)
theorem dJ19_bitCount_39 : decode cJ19_bitCount 39 = .ok (.iadd, 1) := dk_96 (dk_at dksJ19_bitCount_1 15 rfl rfl)
theorem dJ19_bitCount_40 : decode cJ19_bitCount 40 = .ok (.istore_n 0, 1) := dk_59 (dk_at dksJ19_bitCount_1 16 rfl rfl)
theorem dJ19_bitCount_41 : decode cJ19_bitCount 41 = .ok (.iload_n 0, 1) := dk_26 (dk_at dksJ19_bitCount_1 17 rfl rfl)
theorem dJ19_bitCount_42 : decode cJ19_bitCount 42 = .ok (.iload_n 0, 1) := dk_26 (dk_at dksJ19_bitCount_1 18 rfl rfl)
theorem dJ19_bitCount_43 : decode cJ19_bitCount 43 = .ok (.bipush 16, 2) := dk_16 16 (dk_at dksJ19_bitCount_1 19 rfl rfl)
theorem dJ19_bitCount_45 : decode cJ19_bitCount 45 = .ok (.iushr, 1) := dk_124 (dk_at dksJ19_bitCount_1 21 rfl rfl)
theorem dJ19_bitCount_46 : decode cJ19_bitCount 46 = .ok (.iadd, 1) := dk_96 (dk_at dksJ19_bitCount_1 22 rfl rfl)
theorem dJ19_bitCount_47 : decode cJ19_bitCount 47 = .ok (.istore_n 0, 1) := dk_59 (dk_at dksJ19_bitCount_1 23 rfl rfl)
theorem dJ19_bitCount_48 : decode cJ19_bitCount 48 = .ok (.iload_n 0, 1) := dk_26 (dk_at dksJ19_bitCount_2 0 rfl rfl)
theorem dJ19_bitCount_49 : decode cJ19_bitCount 49 = .ok (.bipush 63, 2) := dk_16 63 (dk_at dksJ19_bitCount_2 1 rfl rfl)
theorem dJ19_bitCount_51 : decode cJ19_bitCount 51 = .ok (.iand, 1) := dk_126 (dk_at dksJ19_bitCount_2 3 rfl rfl)
theorem dJ19_bitCount_52 : decode cJ19_bitCount 52 = .ok (.ireturn, 1) := dk_172 (dk_at dksJ19_bitCount_2 4 rfl rfl)
abbrev cJ19_valueOf : ByteArray := prog_22_method_22_code
def yJ19_valueOf : MethodName := ⟨RJ19, "valueOf", "(I)Ljava/lang/Integer;"⟩
def dkwJ19_valueOf_1 : List UInt8 := [187, 0, 1, 89, 26, 183, 0, 199, 176]
abbrev dktJ19_valueOf_1 : List UInt8 := dkwJ19_valueOf_1 ++ []
def dkwJ19_valueOf_0 : List UInt8 := [26, 16, 128, 161, 0, 20, 26, 178, 0, 191, 163, 0, 13, 178, 0, 195, 26, 17, 0, 128, 96, 50, 176]
abbrev dktJ19_valueOf_0 : List UInt8 := dkwJ19_valueOf_0 ++ dktJ19_valueOf_1
theorem dksJ19_valueOf_0 : cJ19_valueOf.data.toList.drop 0 = dktJ19_valueOf_0 := by decide +kernel
theorem dksJ19_valueOf_1 : cJ19_valueOf.data.toList.drop 23 = dktJ19_valueOf_1 := dk_seg dksJ19_valueOf_0 23 rfl rfl
theorem dJ19_valueOf_0 : decode cJ19_valueOf 0 = .ok (.iload_n 0, 1) := dk_26 (dk_at dksJ19_valueOf_0 0 rfl rfl)
theorem dJ19_valueOf_1 : decode cJ19_valueOf 1 = .ok (.bipush (-128), 2) := dk_16 128 (dk_at dksJ19_valueOf_0 1 rfl rfl)
theorem dJ19_valueOf_3 : decode cJ19_valueOf 3 = .ok (.if_icmp .lt 20, 3) := dk_161 0 20 (dk_at dksJ19_valueOf_0 3 rfl rfl)
theorem dJ19_valueOf_6 : decode cJ19_valueOf 6 = .ok (.iload_n 0, 1) := dk_26 (dk_at dksJ19_valueOf_0 6 rfl rfl)
theorem dJ19_valueOf_7 : decode cJ19_valueOf 7 = .ok (.getstatic 191, 3) := dk_178 0 191 (dk_at dksJ19_valueOf_0 7 rfl rfl)
theorem dJ19_valueOf_10 : decode cJ19_valueOf 10 = .ok (.if_icmp .gt 13, 3) := dk_163 0 13 (dk_at dksJ19_valueOf_0 10 rfl rfl)
theorem dJ19_valueOf_13 : decode cJ19_valueOf 13 = .ok (.getstatic 195, 3) := dk_178 0 195 (dk_at dksJ19_valueOf_0 13 rfl rfl)
theorem dJ19_valueOf_16 : decode cJ19_valueOf 16 = .ok (.iload_n 0, 1) := dk_26 (dk_at dksJ19_valueOf_0 16 rfl rfl)
theorem dJ19_valueOf_17 : decode cJ19_valueOf 17 = .ok (.sipush 128, 3) := dk_17 0 128 (dk_at dksJ19_valueOf_0 17 rfl rfl)
theorem dJ19_valueOf_20 : decode cJ19_valueOf 20 = .ok (.iadd, 1) := dk_96 (dk_at dksJ19_valueOf_0 20 rfl rfl)
theorem dJ19_valueOf_21 : decode cJ19_valueOf 21 = .ok (.aaload, 1) := dk_50 (dk_at dksJ19_valueOf_0 21 rfl rfl)
theorem dJ19_valueOf_22 : decode cJ19_valueOf 22 = .ok (.areturn, 1) := dk_176 (dk_at dksJ19_valueOf_0 22 rfl rfl)
theorem dJ19_valueOf_23 : decode cJ19_valueOf 23 = .ok (.new 1, 3) := dk_187 0 1 (dk_at dksJ19_valueOf_1 0 rfl rfl)
theorem dJ19_valueOf_26 : decode cJ19_valueOf 26 = .ok (.dup, 1) := dk_89 (dk_at dksJ19_valueOf_1 3 rfl rfl)
theorem dJ19_valueOf_27 : decode cJ19_valueOf 27 = .ok (.iload_n 0, 1) := dk_26 (dk_at dksJ19_valueOf_1 4 rfl rfl)
theorem dJ19_valueOf_28 : decode cJ19_valueOf 28 = .ok (.invokespecial 199, 3) := dk_183 0 199 (dk_at dksJ19_valueOf_1 5 rfl rfl)
theorem dJ19_valueOf_31 : decode cJ19_valueOf 31 = .ok (.areturn, 1) := dk_176 (dk_at dksJ19_valueOf_1 8 rfl rfl)
abbrev cJ19_init : ByteArray := prog_22_method_23_code
def yJ19_init : MethodName := ⟨RJ19, "<init>", "(I)V"⟩
def dkwJ19_init_0 : List UInt8 := [42, 183, 0, 202, 42, 27, 181, 0, 205, 177]
abbrev dktJ19_init_0 : List UInt8 := dkwJ19_init_0 ++ []
theorem dksJ19_init_0 : cJ19_init.data.toList.drop 0 = dktJ19_init_0 := by decide +kernel
theorem dJ19_init_0 : decode cJ19_init 0 = .ok (.aload_n 0, 1) := dk_42 (dk_at dksJ19_init_0 0 rfl rfl)
theorem dJ19_init_1 : decode cJ19_init 1 = .ok (.invokespecial 202, 3) := dk_183 0 202 (dk_at dksJ19_init_0 1 rfl rfl)
theorem dJ19_init_4 : decode cJ19_init 4 = .ok (.aload_n 0, 1) := dk_42 (dk_at dksJ19_init_0 4 rfl rfl)
theorem dJ19_init_5 : decode cJ19_init 5 = .ok (.iload_n 1, 1) := dk_27 (dk_at dksJ19_init_0 5 rfl rfl)
theorem dJ19_init_6 : decode cJ19_init 6 = .ok (.putfield 205, 3) := dk_181 0 205 (dk_at dksJ19_init_0 6 rfl rfl)
theorem dJ19_init_9 : decode cJ19_init 9 = .ok (.return_, 1) := dk_177 (dk_at dksJ19_init_0 9 rfl rfl)
abbrev cJ19_numberOfTrailingZeros : ByteArray := prog_22_method_48_code
def yJ19_numberOfTrailingZeros : MethodName := ⟨RJ19, "numberOfTrailingZeros", "(I)I"⟩
def dkwJ19_numberOfTrailingZeros_3 : List UInt8 := [5, 124, 59, 27, 26, 4, 124, 96, 172]
abbrev dktJ19_numberOfTrailingZeros_3 : List UInt8 := dkwJ19_numberOfTrailingZeros_3 ++ []
def dkwJ19_numberOfTrailingZeros_2 : List UInt8 := [124, 59, 26, 16, 16, 164, 0, 10, 132, 1, 4, 26, 7, 124, 59, 26, 7, 164, 0, 10, 132, 1, 2, 26]
abbrev dktJ19_numberOfTrailingZeros_2 : List UInt8 := dkwJ19_numberOfTrailingZeros_2 ++ dktJ19_numberOfTrailingZeros_3
def dkwJ19_numberOfTrailingZeros_1 : List UInt8 := [164, 0, 11, 132, 1, 16, 26, 16, 16, 124, 59, 26, 17, 1, 0, 164, 0, 11, 132, 1, 8, 26, 16, 8]
abbrev dktJ19_numberOfTrailingZeros_1 : List UInt8 := dkwJ19_numberOfTrailingZeros_1 ++ dktJ19_numberOfTrailingZeros_2
def dkwJ19_numberOfTrailingZeros_0 : List UInt8 := [26, 2, 130, 26, 4, 100, 126, 59, 26, 157, 0, 8, 26, 16, 32, 126, 172, 4, 60, 26, 19, 1, 8]
abbrev dktJ19_numberOfTrailingZeros_0 : List UInt8 := dkwJ19_numberOfTrailingZeros_0 ++ dktJ19_numberOfTrailingZeros_1
theorem dksJ19_numberOfTrailingZeros_0 : cJ19_numberOfTrailingZeros.data.toList.drop 0 = dktJ19_numberOfTrailingZeros_0 := by decide +kernel
theorem dksJ19_numberOfTrailingZeros_1 : cJ19_numberOfTrailingZeros.data.toList.drop 23 = dktJ19_numberOfTrailingZeros_1 := dk_seg dksJ19_numberOfTrailingZeros_0 23 rfl rfl
theorem dksJ19_numberOfTrailingZeros_2 : cJ19_numberOfTrailingZeros.data.toList.drop 47 = dktJ19_numberOfTrailingZeros_2 := dk_seg dksJ19_numberOfTrailingZeros_1 24 rfl rfl
theorem dksJ19_numberOfTrailingZeros_3 : cJ19_numberOfTrailingZeros.data.toList.drop 71 = dktJ19_numberOfTrailingZeros_3 := dk_seg dksJ19_numberOfTrailingZeros_2 24 rfl rfl
theorem dJ19_numberOfTrailingZeros_0 : decode cJ19_numberOfTrailingZeros 0 = .ok (.iload_n 0, 1) := dk_26 (dk_at dksJ19_numberOfTrailingZeros_0 0 rfl rfl)
theorem dJ19_numberOfTrailingZeros_1 : decode cJ19_numberOfTrailingZeros 1 = .ok (.iconst (-1), 1) := dk_2 (dk_at dksJ19_numberOfTrailingZeros_0 1 rfl rfl)
theorem dJ19_numberOfTrailingZeros_2 : decode cJ19_numberOfTrailingZeros 2 = .ok (.ixor, 1) := dk_130 (dk_at dksJ19_numberOfTrailingZeros_0 2 rfl rfl)
theorem dJ19_numberOfTrailingZeros_3 : decode cJ19_numberOfTrailingZeros 3 = .ok (.iload_n 0, 1) := dk_26 (dk_at dksJ19_numberOfTrailingZeros_0 3 rfl rfl)
theorem dJ19_numberOfTrailingZeros_4 : decode cJ19_numberOfTrailingZeros 4 = .ok (.iconst 1, 1) := dk_4 (dk_at dksJ19_numberOfTrailingZeros_0 4 rfl rfl)
theorem dJ19_numberOfTrailingZeros_5 : decode cJ19_numberOfTrailingZeros 5 = .ok (.isub, 1) := dk_100 (dk_at dksJ19_numberOfTrailingZeros_0 5 rfl rfl)
theorem dJ19_numberOfTrailingZeros_6 : decode cJ19_numberOfTrailingZeros 6 = .ok (.iand, 1) := dk_126 (dk_at dksJ19_numberOfTrailingZeros_0 6 rfl rfl)
theorem dJ19_numberOfTrailingZeros_7 : decode cJ19_numberOfTrailingZeros 7 = .ok (.istore_n 0, 1) := dk_59 (dk_at dksJ19_numberOfTrailingZeros_0 7 rfl rfl)
theorem dJ19_numberOfTrailingZeros_8 : decode cJ19_numberOfTrailingZeros 8 = .ok (.iload_n 0, 1) := dk_26 (dk_at dksJ19_numberOfTrailingZeros_0 8 rfl rfl)
theorem dJ19_numberOfTrailingZeros_9 : decode cJ19_numberOfTrailingZeros 9 = .ok (.ifCond .gt 8, 3) := dk_157 0 8 (dk_at dksJ19_numberOfTrailingZeros_0 9 rfl rfl)
theorem dJ19_numberOfTrailingZeros_12 : decode cJ19_numberOfTrailingZeros 12 = .ok (.iload_n 0, 1) := dk_26 (dk_at dksJ19_numberOfTrailingZeros_0 12 rfl rfl)
theorem dJ19_numberOfTrailingZeros_13 : decode cJ19_numberOfTrailingZeros 13 = .ok (.bipush 32, 2) := dk_16 32 (dk_at dksJ19_numberOfTrailingZeros_0 13 rfl rfl)
theorem dJ19_numberOfTrailingZeros_15 : decode cJ19_numberOfTrailingZeros 15 = .ok (.iand, 1) := dk_126 (dk_at dksJ19_numberOfTrailingZeros_0 15 rfl rfl)
theorem dJ19_numberOfTrailingZeros_16 : decode cJ19_numberOfTrailingZeros 16 = .ok (.ireturn, 1) := dk_172 (dk_at dksJ19_numberOfTrailingZeros_0 16 rfl rfl)
theorem dJ19_numberOfTrailingZeros_17 : decode cJ19_numberOfTrailingZeros 17 = .ok (.iconst 1, 1) := dk_4 (dk_at dksJ19_numberOfTrailingZeros_0 17 rfl rfl)
theorem dJ19_numberOfTrailingZeros_18 : decode cJ19_numberOfTrailingZeros 18 = .ok (.istore_n 1, 1) := dk_60 (dk_at dksJ19_numberOfTrailingZeros_0 18 rfl rfl)
theorem dJ19_numberOfTrailingZeros_19 : decode cJ19_numberOfTrailingZeros 19 = .ok (.iload_n 0, 1) := dk_26 (dk_at dksJ19_numberOfTrailingZeros_0 19 rfl rfl)
theorem dJ19_numberOfTrailingZeros_20 : decode cJ19_numberOfTrailingZeros 20 = .ok (.ldc_w 264, 3) := dk_19 1 8 (dk_at dksJ19_numberOfTrailingZeros_0 20 rfl rfl)
theorem dJ19_numberOfTrailingZeros_23 : decode cJ19_numberOfTrailingZeros 23 = .ok (.if_icmp .le 11, 3) := dk_164 0 11 (dk_at dksJ19_numberOfTrailingZeros_1 0 rfl rfl)
theorem dJ19_numberOfTrailingZeros_26 : decode cJ19_numberOfTrailingZeros 26 = .ok (.iinc 1 16, 3) := dk_132 1 16 (dk_at dksJ19_numberOfTrailingZeros_1 3 rfl rfl)
theorem dJ19_numberOfTrailingZeros_29 : decode cJ19_numberOfTrailingZeros 29 = .ok (.iload_n 0, 1) := dk_26 (dk_at dksJ19_numberOfTrailingZeros_1 6 rfl rfl)
theorem dJ19_numberOfTrailingZeros_30 : decode cJ19_numberOfTrailingZeros 30 = .ok (.bipush 16, 2) := dk_16 16 (dk_at dksJ19_numberOfTrailingZeros_1 7 rfl rfl)
theorem dJ19_numberOfTrailingZeros_32 : decode cJ19_numberOfTrailingZeros 32 = .ok (.iushr, 1) := dk_124 (dk_at dksJ19_numberOfTrailingZeros_1 9 rfl rfl)
theorem dJ19_numberOfTrailingZeros_33 : decode cJ19_numberOfTrailingZeros 33 = .ok (.istore_n 0, 1) := dk_59 (dk_at dksJ19_numberOfTrailingZeros_1 10 rfl rfl)
theorem dJ19_numberOfTrailingZeros_34 : decode cJ19_numberOfTrailingZeros 34 = .ok (.iload_n 0, 1) := dk_26 (dk_at dksJ19_numberOfTrailingZeros_1 11 rfl rfl)
theorem dJ19_numberOfTrailingZeros_35 : decode cJ19_numberOfTrailingZeros 35 = .ok (.sipush 256, 3) := dk_17 1 0 (dk_at dksJ19_numberOfTrailingZeros_1 12 rfl rfl)
theorem dJ19_numberOfTrailingZeros_38 : decode cJ19_numberOfTrailingZeros 38 = .ok (.if_icmp .le 11, 3) := dk_164 0 11 (dk_at dksJ19_numberOfTrailingZeros_1 15 rfl rfl)
theorem dJ19_numberOfTrailingZeros_41 : decode cJ19_numberOfTrailingZeros 41 = .ok (.iinc 1 8, 3) := dk_132 1 8 (dk_at dksJ19_numberOfTrailingZeros_1 18 rfl rfl)
theorem dJ19_numberOfTrailingZeros_44 : decode cJ19_numberOfTrailingZeros 44 = .ok (.iload_n 0, 1) := dk_26 (dk_at dksJ19_numberOfTrailingZeros_1 21 rfl rfl)
theorem dJ19_numberOfTrailingZeros_45 : decode cJ19_numberOfTrailingZeros 45 = .ok (.bipush 8, 2) := dk_16 8 (dk_at dksJ19_numberOfTrailingZeros_1 22 rfl rfl)
theorem dJ19_numberOfTrailingZeros_47 : decode cJ19_numberOfTrailingZeros 47 = .ok (.iushr, 1) := dk_124 (dk_at dksJ19_numberOfTrailingZeros_2 0 rfl rfl)
theorem dJ19_numberOfTrailingZeros_48 : decode cJ19_numberOfTrailingZeros 48 = .ok (.istore_n 0, 1) := dk_59 (dk_at dksJ19_numberOfTrailingZeros_2 1 rfl rfl)
theorem dJ19_numberOfTrailingZeros_49 : decode cJ19_numberOfTrailingZeros 49 = .ok (.iload_n 0, 1) := dk_26 (dk_at dksJ19_numberOfTrailingZeros_2 2 rfl rfl)
theorem dJ19_numberOfTrailingZeros_50 : decode cJ19_numberOfTrailingZeros 50 = .ok (.bipush 16, 2) := dk_16 16 (dk_at dksJ19_numberOfTrailingZeros_2 3 rfl rfl)
theorem dJ19_numberOfTrailingZeros_52 : decode cJ19_numberOfTrailingZeros 52 = .ok (.if_icmp .le 10, 3) := dk_164 0 10 (dk_at dksJ19_numberOfTrailingZeros_2 5 rfl rfl)
theorem dJ19_numberOfTrailingZeros_55 : decode cJ19_numberOfTrailingZeros 55 = .ok (.iinc 1 4, 3) := dk_132 1 4 (dk_at dksJ19_numberOfTrailingZeros_2 8 rfl rfl)
theorem dJ19_numberOfTrailingZeros_58 : decode cJ19_numberOfTrailingZeros 58 = .ok (.iload_n 0, 1) := dk_26 (dk_at dksJ19_numberOfTrailingZeros_2 11 rfl rfl)
theorem dJ19_numberOfTrailingZeros_59 : decode cJ19_numberOfTrailingZeros 59 = .ok (.iconst 4, 1) := dk_7 (dk_at dksJ19_numberOfTrailingZeros_2 12 rfl rfl)
theorem dJ19_numberOfTrailingZeros_60 : decode cJ19_numberOfTrailingZeros 60 = .ok (.iushr, 1) := dk_124 (dk_at dksJ19_numberOfTrailingZeros_2 13 rfl rfl)
theorem dJ19_numberOfTrailingZeros_61 : decode cJ19_numberOfTrailingZeros 61 = .ok (.istore_n 0, 1) := dk_59 (dk_at dksJ19_numberOfTrailingZeros_2 14 rfl rfl)
theorem dJ19_numberOfTrailingZeros_62 : decode cJ19_numberOfTrailingZeros 62 = .ok (.iload_n 0, 1) := dk_26 (dk_at dksJ19_numberOfTrailingZeros_2 15 rfl rfl)
theorem dJ19_numberOfTrailingZeros_63 : decode cJ19_numberOfTrailingZeros 63 = .ok (.iconst 4, 1) := dk_7 (dk_at dksJ19_numberOfTrailingZeros_2 16 rfl rfl)
theorem dJ19_numberOfTrailingZeros_64 : decode cJ19_numberOfTrailingZeros 64 = .ok (.if_icmp .le 10, 3) := dk_164 0 10 (dk_at dksJ19_numberOfTrailingZeros_2 17 rfl rfl)
theorem dJ19_numberOfTrailingZeros_67 : decode cJ19_numberOfTrailingZeros 67 = .ok (.iinc 1 2, 3) := dk_132 1 2 (dk_at dksJ19_numberOfTrailingZeros_2 20 rfl rfl)
theorem dJ19_numberOfTrailingZeros_70 : decode cJ19_numberOfTrailingZeros 70 = .ok (.iload_n 0, 1) := dk_26 (dk_at dksJ19_numberOfTrailingZeros_2 23 rfl rfl)
theorem dJ19_numberOfTrailingZeros_71 : decode cJ19_numberOfTrailingZeros 71 = .ok (.iconst 2, 1) := dk_5 (dk_at dksJ19_numberOfTrailingZeros_3 0 rfl rfl)
theorem dJ19_numberOfTrailingZeros_72 : decode cJ19_numberOfTrailingZeros 72 = .ok (.iushr, 1) := dk_124 (dk_at dksJ19_numberOfTrailingZeros_3 1 rfl rfl)
theorem dJ19_numberOfTrailingZeros_73 : decode cJ19_numberOfTrailingZeros 73 = .ok (.istore_n 0, 1) := dk_59 (dk_at dksJ19_numberOfTrailingZeros_3 2 rfl rfl)
theorem dJ19_numberOfTrailingZeros_74 : decode cJ19_numberOfTrailingZeros 74 = .ok (.iload_n 1, 1) := dk_27 (dk_at dksJ19_numberOfTrailingZeros_3 3 rfl rfl)
theorem dJ19_numberOfTrailingZeros_75 : decode cJ19_numberOfTrailingZeros 75 = .ok (.iload_n 0, 1) := dk_26 (dk_at dksJ19_numberOfTrailingZeros_3 4 rfl rfl)
theorem dJ19_numberOfTrailingZeros_76 : decode cJ19_numberOfTrailingZeros 76 = .ok (.iconst 1, 1) := dk_4 (dk_at dksJ19_numberOfTrailingZeros_3 5 rfl rfl)
theorem dJ19_numberOfTrailingZeros_77 : decode cJ19_numberOfTrailingZeros 77 = .ok (.iushr, 1) := dk_124 (dk_at dksJ19_numberOfTrailingZeros_3 6 rfl rfl)
theorem dJ19_numberOfTrailingZeros_78 : decode cJ19_numberOfTrailingZeros 78 = .ok (.iadd, 1) := dk_96 (dk_at dksJ19_numberOfTrailingZeros_3 7 rfl rfl)
theorem dJ19_numberOfTrailingZeros_79 : decode cJ19_numberOfTrailingZeros 79 = .ok (.ireturn, 1) := dk_172 (dk_at dksJ19_numberOfTrailingZeros_3 8 rfl rfl)
theorem q165 : (Jvm.Cond.initialized "java/lang/Integer") ∈ lw_all := lw_g (lw_at lw_m1 31 rfl) rfl
theorem q403 : (Jvm.Cond.selects "java/lang/Integer" ({ cls := "java/lang/Object", name := "getClass", desc := "()Ljava/lang/Class;" } : Jvm.MethodName) ({ cls := "java/lang/Object", name := "getClass", desc := "()Ljava/lang/Class;" } : Jvm.MethodName)) ∈ lw_all := lw_g (lw_at lw_m2 29 rfl) rfl
theorem q493 : (Jvm.Cond.instanceMethod ({ cls := "java/lang/Integer", name := "intValue", desc := "()I" } : Jvm.MethodName)) ∈ lw_all := lw_g (lw_at lw_m2 119 rfl) rfl
theorem q494 : (Jvm.Cond.selects "java/lang/Integer" ({ cls := "java/lang/Integer", name := "intValue", desc := "()I" } : Jvm.MethodName) ({ cls := "java/lang/Integer", name := "intValue", desc := "()I" } : Jvm.MethodName)) ∈ lw_all := lw_g (lw_at lw_m2 120 rfl) rfl
theorem q495 : (Jvm.Cond.code ({ cls := "java/lang/Integer", name := "intValue", desc := "()I" } : Jvm.MethodName) prog_22_method_27_code (1 : Nat) (Option.some Jvm.ClassFile.FieldType.int)) ∈ lw_all := lw_g (lw_at lw_m2 121 rfl) rfl
theorem q509 : (Jvm.Cond.static ({ cls := "java/lang/Integer", name := "bitCount", desc := "(I)I" } : Jvm.MethodName)) ∈ lw_all := lw_g (lw_at lw_m2 135 rfl) rfl
theorem q510 : (Jvm.Cond.code ({ cls := "java/lang/Integer", name := "bitCount", desc := "(I)I" } : Jvm.MethodName) prog_22_method_49_code (1 : Nat) (Option.some Jvm.ClassFile.FieldType.int)) ∈ lw_all := lw_g (lw_at lw_m2 136 rfl) rfl
theorem q511 : (Jvm.Cond.constant "java/lang/Integer" (265 : Nat) (1431655765 : Int32)) ∈ lw_all := lw_g (lw_at lw_m2 137 rfl) rfl
theorem q512 : (Jvm.Cond.constant "java/lang/Integer" (266 : Nat) (858993459 : Int32)) ∈ lw_all := lw_g (lw_at lw_m2 138 rfl) rfl
theorem q513 : (Jvm.Cond.constant "java/lang/Integer" (267 : Nat) (252645135 : Int32)) ∈ lw_all := lw_g (lw_at lw_m2 139 rfl) rfl
theorem q1186 : (Jvm.Cond.static ({ cls := "java/lang/Integer", name := "valueOf", desc := "(I)Ljava/lang/Integer;" } : Jvm.MethodName)) ∈ lw_all := lw_g (lw_at lw_m5 92 rfl) rfl
theorem q1187 : (Jvm.Cond.code ({ cls := "java/lang/Integer", name := "valueOf", desc := "(I)Ljava/lang/Integer;" } : Jvm.MethodName) prog_22_method_22_code (1 : Nat) (Option.some (Jvm.ClassFile.FieldType.object "java/lang/Integer"))) ∈ lw_all := lw_g (lw_at lw_m5 93 rfl) rfl
theorem q1188 : (Jvm.Cond.fieldLink "java/lang/Integer" (191 : Nat) "java/lang/Integer$IntegerCache" "high" "I") ∈ lw_all := lw_g (lw_at lw_m5 94 rfl) rfl
theorem q1190 : (Jvm.Cond.fieldLink "java/lang/Integer" (195 : Nat) "java/lang/Integer$IntegerCache" "cache" "[Ljava/lang/Integer;") ∈ lw_all := lw_g (lw_at lw_m5 96 rfl) rfl
theorem q1192 : (Jvm.Cond.classLink "java/lang/Integer" (1 : Nat) "java/lang/Integer") ∈ lw_all := lw_g (lw_at lw_m5 98 rfl) rfl
theorem q1193 : (Jvm.Cond.instantiable "java/lang/Integer" (1 : Nat)) ∈ lw_all := lw_g (lw_at lw_m5 99 rfl) rfl
theorem q1194 : (Jvm.Cond.methodLink "java/lang/Integer" (199 : Nat) ({ cls := "java/lang/Integer", name := "<init>", desc := "(I)V" } : Jvm.MethodName)) ∈ lw_all := lw_g (lw_at lw_m5 100 rfl) rfl
theorem q1195 : (Jvm.Cond.instanceMethod ({ cls := "java/lang/Integer", name := "<init>", desc := "(I)V" } : Jvm.MethodName)) ∈ lw_all := lw_g (lw_at lw_m5 101 rfl) rfl
theorem q1196 : (Jvm.Cond.code ({ cls := "java/lang/Integer", name := "<init>", desc := "(I)V" } : Jvm.MethodName) prog_22_method_23_code (2 : Nat) (Option.none : Option Jvm.ClassFile.FieldType)) ∈ lw_all := lw_g (lw_at lw_m5 102 rfl) rfl
theorem q1197 : (Jvm.Cond.methodLink "java/lang/Integer" (202 : Nat) ({ cls := "java/lang/Number", name := "<init>", desc := "()V" } : Jvm.MethodName)) ∈ lw_all := lw_g (lw_at lw_m5 103 rfl) rfl
theorem q1201 : (Jvm.Cond.fieldLink "java/lang/Integer" (205 : Nat) "java/lang/Integer" "value" "I") ∈ lw_all := lw_g (lw_at lw_m5 107 rfl) rfl
theorem q1202 : (Jvm.Cond.laysFinal "java/lang/Integer" "java/lang/Integer" "value" "I") ∈ lw_all := lw_g (lw_at lw_m5 108 rfl) rfl
theorem q1203 : (Jvm.Cond.soleField "java/lang/Integer" "value") ∈ lw_all := lw_g (lw_at lw_m5 109 rfl) rfl
theorem q1204 : (Jvm.Cond.superclass "java/lang/Integer" "java/lang/Number") ∈ lw_all := lw_g (lw_at lw_m5 110 rfl) rfl
theorem q1249 : (Jvm.Cond.static ({ cls := "java/lang/Integer", name := "numberOfTrailingZeros", desc := "(I)I" } : Jvm.MethodName)) ∈ lw_all := lw_g (lw_at lw_m5 155 rfl) rfl
theorem q1250 : (Jvm.Cond.code ({ cls := "java/lang/Integer", name := "numberOfTrailingZeros", desc := "(I)I" } : Jvm.MethodName) prog_22_method_48_code (2 : Nat) (Option.some Jvm.ClassFile.FieldType.int)) ∈ lw_all := lw_g (lw_at lw_m5 156 rfl) rfl
theorem q1251 : (Jvm.Cond.constant "java/lang/Integer" (264 : Nat) (65536 : Int32)) ∈ lw_all := lw_g (lw_at lw_m5 157 rfl) rfl
theorem q2370 : (Jvm.Cond.castable "java/lang/Integer" "java/lang/Object") ∈ lw_tbl := lw_at lw_m10 76 rfl
theorem in_J19 : ∀ w ∈ wsJ190, w ∈ lw_all := lw_in wsJ190 [1202] (by decide +kernel) (by decide +kernel)

/-! java/util/ArrayList -/
set_option maxRecDepth 100000
def RJ2 : String := "java/util/ArrayList"
def TJ2 : u_T := fun k => match k with
  | 0 => ("java/util/AbstractList", "modCount", "I", false)
  | 1 => ("java/util/ArrayList", "elementData", "[Ljava/lang/Object;", false)
  | _ => ("java/util/ArrayList", "size", "I", false)
def tyJ2 : Nat → FieldType := fun k => match k with
  | 0 => .int
  | 1 => .array (.object "java/lang/Object")
  | _ => .int
abbrev wsJ20 : List Cond := u_ws RJ2 TJ2 3
theorem nmJ2 : ∀ a, a < 3 → ∀ b, b < 3 → a ≠ b → (TJ2 a).2.1 ≠ (TJ2 b).2.1 := by decide +kernel
theorem tyJ2_ok : ∀ k, k < 3 → parseFieldDescriptor (TJ2 k).2.2.1 = some (tyJ2 k) := by decide +kernel
abbrev cJ2_init : ByteArray := prog_38_method_2_code
def yJ2_init : MethodName := ⟨RJ2, "<init>", "()V"⟩
def dkwJ2_init_0 : List UInt8 := [42, 183, 0, 1, 42, 178, 0, 39, 181, 0, 9, 177]
abbrev dktJ2_init_0 : List UInt8 := dkwJ2_init_0 ++ []
theorem dksJ2_init_0 : cJ2_init.data.toList.drop 0 = dktJ2_init_0 := by decide +kernel
theorem dJ2_init_0 : decode cJ2_init 0 = .ok (.aload_n 0, 1) := dk_42 (dk_at dksJ2_init_0 0 rfl rfl)
theorem dJ2_init_1 : decode cJ2_init 1 = .ok (.invokespecial 1, 3) := dk_183 0 1 (dk_at dksJ2_init_0 1 rfl rfl)
theorem dJ2_init_4 : decode cJ2_init 4 = .ok (.aload_n 0, 1) := dk_42 (dk_at dksJ2_init_0 4 rfl rfl)
theorem dJ2_init_5 : decode cJ2_init 5 = .ok (.getstatic 39, 3) := dk_178 0 39 (dk_at dksJ2_init_0 5 rfl rfl)
theorem dJ2_init_8 : decode cJ2_init 8 = .ok (.putfield 9, 3) := dk_181 0 9 (dk_at dksJ2_init_0 8 rfl rfl)
theorem dJ2_init_11 : decode cJ2_init 11 = .ok (.return_, 1) := dk_177 (dk_at dksJ2_init_0 11 rfl rfl)
abbrev cJ2_add : ByteArray := prog_38_method_25_code
def yJ2_add : MethodName := ⟨RJ2, "add", "(Ljava/lang/Object;)Z"⟩
def dkwJ2_add_1 : List UInt8 := [172]
abbrev dktJ2_add_1 : List UInt8 := dkwJ2_add_1 ++ []
def dkwJ2_add_0 : List UInt8 := [42, 89, 180, 0, 63, 4, 96, 181, 0, 63, 42, 43, 42, 180, 0, 9, 42, 180, 0, 48, 182, 0, 131, 4]
abbrev dktJ2_add_0 : List UInt8 := dkwJ2_add_0 ++ dktJ2_add_1
theorem dksJ2_add_0 : cJ2_add.data.toList.drop 0 = dktJ2_add_0 := by decide +kernel
theorem dksJ2_add_1 : cJ2_add.data.toList.drop 24 = dktJ2_add_1 := dk_seg dksJ2_add_0 24 rfl rfl
theorem dJ2_add_0 : decode cJ2_add 0 = .ok (.aload_n 0, 1) := dk_42 (dk_at dksJ2_add_0 0 rfl rfl)
theorem dJ2_add_1 : decode cJ2_add 1 = .ok (.dup, 1) := dk_89 (dk_at dksJ2_add_0 1 rfl rfl)
theorem dJ2_add_2 : decode cJ2_add 2 = .ok (.getfield 63, 3) := dk_180 0 63 (dk_at dksJ2_add_0 2 rfl rfl)
theorem dJ2_add_5 : decode cJ2_add 5 = .ok (.iconst 1, 1) := dk_4 (dk_at dksJ2_add_0 5 rfl rfl)
theorem dJ2_add_6 : decode cJ2_add 6 = .ok (.iadd, 1) := dk_96 (dk_at dksJ2_add_0 6 rfl rfl)
theorem dJ2_add_7 : decode cJ2_add 7 = .ok (.putfield 63, 3) := dk_181 0 63 (dk_at dksJ2_add_0 7 rfl rfl)
theorem dJ2_add_10 : decode cJ2_add 10 = .ok (.aload_n 0, 1) := dk_42 (dk_at dksJ2_add_0 10 rfl rfl)
theorem dJ2_add_11 : decode cJ2_add 11 = .ok (.aload_n 1, 1) := dk_43 (dk_at dksJ2_add_0 11 rfl rfl)
theorem dJ2_add_12 : decode cJ2_add 12 = .ok (.aload_n 0, 1) := dk_42 (dk_at dksJ2_add_0 12 rfl rfl)
theorem dJ2_add_13 : decode cJ2_add 13 = .ok (.getfield 9, 3) := dk_180 0 9 (dk_at dksJ2_add_0 13 rfl rfl)
theorem dJ2_add_16 : decode cJ2_add 16 = .ok (.aload_n 0, 1) := dk_42 (dk_at dksJ2_add_0 16 rfl rfl)
theorem dJ2_add_17 : decode cJ2_add 17 = .ok (.getfield 48, 3) := dk_180 0 48 (dk_at dksJ2_add_0 17 rfl rfl)
theorem dJ2_add_20 : decode cJ2_add 20 = .ok (.invokevirtual 131, 3) := dk_182 0 131 (dk_at dksJ2_add_0 20 rfl rfl)
theorem dJ2_add_23 : decode cJ2_add 23 = .ok (.iconst 1, 1) := dk_4 (dk_at dksJ2_add_0 23 rfl rfl)
theorem dJ2_add_24 : decode cJ2_add 24 = .ok (.ireturn, 1) := dk_172 (dk_at dksJ2_add_1 0 rfl rfl)
abbrev cJ2_add_2 : ByteArray := prog_38_method_24_code
def yJ2_add_2 : MethodName := ⟨RJ2, "add", "(Ljava/lang/Object;[Ljava/lang/Object;I)V"⟩
def dkwJ2_add_2_0 : List UInt8 := [29, 44, 190, 160, 0, 8, 42, 182, 0, 129, 77, 44, 29, 43, 83, 42, 29, 4, 96, 181, 0, 48, 177]
abbrev dktJ2_add_2_0 : List UInt8 := dkwJ2_add_2_0 ++ []
theorem dksJ2_add_2_0 : cJ2_add_2.data.toList.drop 0 = dktJ2_add_2_0 := by decide +kernel
theorem dJ2_add_2_0 : decode cJ2_add_2 0 = .ok (.iload_n 3, 1) := dk_29 (dk_at dksJ2_add_2_0 0 rfl rfl)
theorem dJ2_add_2_1 : decode cJ2_add_2 1 = .ok (.aload_n 2, 1) := dk_44 (dk_at dksJ2_add_2_0 1 rfl rfl)
theorem dJ2_add_2_2 : decode cJ2_add_2 2 = .ok (.arraylength, 1) := dk_190 (dk_at dksJ2_add_2_0 2 rfl rfl)
theorem dJ2_add_2_3 : decode cJ2_add_2 3 = .ok (.if_icmp .ne 8, 3) := dk_160 0 8 (dk_at dksJ2_add_2_0 3 rfl rfl)
theorem dJ2_add_2_6 : decode cJ2_add_2 6 = .ok (.aload_n 0, 1) := dk_42 (dk_at dksJ2_add_2_0 6 rfl rfl)
theorem dJ2_add_2_7 : decode cJ2_add_2 7 = .ok (.invokevirtual 129, 3) := dk_182 0 129 (dk_at dksJ2_add_2_0 7 rfl rfl)
theorem dJ2_add_2_10 : decode cJ2_add_2 10 = .ok (.astore_n 2, 1) := dk_77 (dk_at dksJ2_add_2_0 10 rfl rfl)
theorem dJ2_add_2_11 : decode cJ2_add_2 11 = .ok (.aload_n 2, 1) := dk_44 (dk_at dksJ2_add_2_0 11 rfl rfl)
theorem dJ2_add_2_12 : decode cJ2_add_2 12 = .ok (.iload_n 3, 1) := dk_29 (dk_at dksJ2_add_2_0 12 rfl rfl)
theorem dJ2_add_2_13 : decode cJ2_add_2 13 = .ok (.aload_n 1, 1) := dk_43 (dk_at dksJ2_add_2_0 13 rfl rfl)
theorem dJ2_add_2_14 : decode cJ2_add_2 14 = .ok (.aastore, 1) := dk_83 (dk_at dksJ2_add_2_0 14 rfl rfl)
theorem dJ2_add_2_15 : decode cJ2_add_2 15 = .ok (.aload_n 0, 1) := dk_42 (dk_at dksJ2_add_2_0 15 rfl rfl)
theorem dJ2_add_2_16 : decode cJ2_add_2 16 = .ok (.iload_n 3, 1) := dk_29 (dk_at dksJ2_add_2_0 16 rfl rfl)
theorem dJ2_add_2_17 : decode cJ2_add_2 17 = .ok (.iconst 1, 1) := dk_4 (dk_at dksJ2_add_2_0 17 rfl rfl)
theorem dJ2_add_2_18 : decode cJ2_add_2 18 = .ok (.iadd, 1) := dk_96 (dk_at dksJ2_add_2_0 18 rfl rfl)
theorem dJ2_add_2_19 : decode cJ2_add_2 19 = .ok (.putfield 48, 3) := dk_181 0 48 (dk_at dksJ2_add_2_0 19 rfl rfl)
theorem dJ2_add_2_22 : decode cJ2_add_2 22 = .ok (.return_, 1) := dk_177 (dk_at dksJ2_add_2_0 22 rfl rfl)
abbrev cJ2_grow : ByteArray := prog_38_method_7_code
def yJ2_grow : MethodName := ⟨RJ2, "grow", "()[Ljava/lang/Object;"⟩
def dkwJ2_grow_0 : List UInt8 := [42, 42, 180, 0, 48, 4, 96, 182, 0, 69, 176]
abbrev dktJ2_grow_0 : List UInt8 := dkwJ2_grow_0 ++ []
theorem dksJ2_grow_0 : cJ2_grow.data.toList.drop 0 = dktJ2_grow_0 := by decide +kernel
theorem dJ2_grow_0 : decode cJ2_grow 0 = .ok (.aload_n 0, 1) := dk_42 (dk_at dksJ2_grow_0 0 rfl rfl)
theorem dJ2_grow_1 : decode cJ2_grow 1 = .ok (.aload_n 0, 1) := dk_42 (dk_at dksJ2_grow_0 1 rfl rfl)
theorem dJ2_grow_2 : decode cJ2_grow 2 = .ok (.getfield 48, 3) := dk_180 0 48 (dk_at dksJ2_grow_0 2 rfl rfl)
theorem dJ2_grow_5 : decode cJ2_grow 5 = .ok (.iconst 1, 1) := dk_4 (dk_at dksJ2_grow_0 5 rfl rfl)
theorem dJ2_grow_6 : decode cJ2_grow 6 = .ok (.iadd, 1) := dk_96 (dk_at dksJ2_grow_0 6 rfl rfl)
theorem dJ2_grow_7 : decode cJ2_grow 7 = .ok (.invokevirtual 69, 3) := dk_182 0 69 (dk_at dksJ2_grow_0 7 rfl rfl)
theorem dJ2_grow_10 : decode cJ2_grow 10 = .ok (.areturn, 1) := dk_176 (dk_at dksJ2_grow_0 10 rfl rfl)
abbrev cJ2_grow_2 : ByteArray := prog_38_method_6_code
def yJ2_grow_2 : MethodName := ⟨RJ2, "grow", "(I)[Ljava/lang/Object;"⟩
def dkwJ2_grow_2_2 : List UInt8 := [27, 184, 0, 79, 189, 0, 7, 90, 181, 0, 9, 176]
abbrev dktJ2_grow_2_2 : List UInt8 := dkwJ2_grow_2_2 ++ []
def dkwJ2_grow_2_1 : List UInt8 := [28, 4, 122, 184, 0, 73, 62, 42, 42, 180, 0, 9, 29, 184, 0, 66, 90, 181, 0, 9, 176, 42, 16, 10]
abbrev dktJ2_grow_2_1 : List UInt8 := dkwJ2_grow_2_1 ++ dktJ2_grow_2_2
def dkwJ2_grow_2_0 : List UInt8 := [42, 180, 0, 9, 190, 61, 28, 157, 0, 13, 42, 180, 0, 9, 178, 0, 39, 165, 0, 28, 28, 27, 28, 100]
abbrev dktJ2_grow_2_0 : List UInt8 := dkwJ2_grow_2_0 ++ dktJ2_grow_2_1
theorem dksJ2_grow_2_0 : cJ2_grow_2.data.toList.drop 0 = dktJ2_grow_2_0 := by decide +kernel
theorem dksJ2_grow_2_1 : cJ2_grow_2.data.toList.drop 24 = dktJ2_grow_2_1 := dk_seg dksJ2_grow_2_0 24 rfl rfl
theorem dksJ2_grow_2_2 : cJ2_grow_2.data.toList.drop 48 = dktJ2_grow_2_2 := dk_seg dksJ2_grow_2_1 24 rfl rfl
theorem dJ2_grow_2_0 : decode cJ2_grow_2 0 = .ok (.aload_n 0, 1) := dk_42 (dk_at dksJ2_grow_2_0 0 rfl rfl)
theorem dJ2_grow_2_1 : decode cJ2_grow_2 1 = .ok (.getfield 9, 3) := dk_180 0 9 (dk_at dksJ2_grow_2_0 1 rfl rfl)
theorem dJ2_grow_2_4 : decode cJ2_grow_2 4 = .ok (.arraylength, 1) := dk_190 (dk_at dksJ2_grow_2_0 4 rfl rfl)
theorem dJ2_grow_2_5 : decode cJ2_grow_2 5 = .ok (.istore_n 2, 1) := dk_61 (dk_at dksJ2_grow_2_0 5 rfl rfl)
theorem dJ2_grow_2_6 : decode cJ2_grow_2 6 = .ok (.iload_n 2, 1) := dk_28 (dk_at dksJ2_grow_2_0 6 rfl rfl)
theorem dJ2_grow_2_7 : decode cJ2_grow_2 7 = .ok (.ifCond .gt 13, 3) := dk_157 0 13 (dk_at dksJ2_grow_2_0 7 rfl rfl)
theorem dJ2_grow_2_10 : decode cJ2_grow_2 10 = .ok (.aload_n 0, 1) := dk_42 (dk_at dksJ2_grow_2_0 10 rfl rfl)
theorem dJ2_grow_2_11 : decode cJ2_grow_2 11 = .ok (.getfield 9, 3) := dk_180 0 9 (dk_at dksJ2_grow_2_0 11 rfl rfl)
theorem dJ2_grow_2_14 : decode cJ2_grow_2 14 = .ok (.getstatic 39, 3) := dk_178 0 39 (dk_at dksJ2_grow_2_0 14 rfl rfl)
theorem dJ2_grow_2_17 : decode cJ2_grow_2 17 = .ok (.if_acmp .eq 28, 3) := dk_165 0 28 (dk_at dksJ2_grow_2_0 17 rfl rfl)
theorem dJ2_grow_2_20 : decode cJ2_grow_2 20 = .ok (.iload_n 2, 1) := dk_28 (dk_at dksJ2_grow_2_0 20 rfl rfl)
theorem dJ2_grow_2_21 : decode cJ2_grow_2 21 = .ok (.iload_n 1, 1) := dk_27 (dk_at dksJ2_grow_2_0 21 rfl rfl)
theorem dJ2_grow_2_22 : decode cJ2_grow_2 22 = .ok (.iload_n 2, 1) := dk_28 (dk_at dksJ2_grow_2_0 22 rfl rfl)
theorem dJ2_grow_2_23 : decode cJ2_grow_2 23 = .ok (.isub, 1) := dk_100 (dk_at dksJ2_grow_2_0 23 rfl rfl)
theorem dJ2_grow_2_24 : decode cJ2_grow_2 24 = .ok (.iload_n 2, 1) := dk_28 (dk_at dksJ2_grow_2_1 0 rfl rfl)
theorem dJ2_grow_2_25 : decode cJ2_grow_2 25 = .ok (.iconst 1, 1) := dk_4 (dk_at dksJ2_grow_2_1 1 rfl rfl)
theorem dJ2_grow_2_26 : decode cJ2_grow_2 26 = .ok (.ishr, 1) := dk_122 (dk_at dksJ2_grow_2_1 2 rfl rfl)
theorem dJ2_grow_2_27 : decode cJ2_grow_2 27 = .ok (.invokestatic 73, 3) := dk_184 0 73 (dk_at dksJ2_grow_2_1 3 rfl rfl)
theorem dJ2_grow_2_30 : decode cJ2_grow_2 30 = .ok (.istore_n 3, 1) := dk_62 (dk_at dksJ2_grow_2_1 6 rfl rfl)
theorem dJ2_grow_2_31 : decode cJ2_grow_2 31 = .ok (.aload_n 0, 1) := dk_42 (dk_at dksJ2_grow_2_1 7 rfl rfl)
theorem dJ2_grow_2_32 : decode cJ2_grow_2 32 = .ok (.aload_n 0, 1) := dk_42 (dk_at dksJ2_grow_2_1 8 rfl rfl)
theorem dJ2_grow_2_33 : decode cJ2_grow_2 33 = .ok (.getfield 9, 3) := dk_180 0 9 (dk_at dksJ2_grow_2_1 9 rfl rfl)
theorem dJ2_grow_2_36 : decode cJ2_grow_2 36 = .ok (.iload_n 3, 1) := dk_29 (dk_at dksJ2_grow_2_1 12 rfl rfl)
theorem dJ2_grow_2_37 : decode cJ2_grow_2 37 = .ok (.invokestatic 66, 3) := dk_184 0 66 (dk_at dksJ2_grow_2_1 13 rfl rfl)
theorem dJ2_grow_2_40 : decode cJ2_grow_2 40 = .ok (.dup_x1, 1) := dk_90 (dk_at dksJ2_grow_2_1 16 rfl rfl)
theorem dJ2_grow_2_41 : decode cJ2_grow_2 41 = .ok (.putfield 9, 3) := dk_181 0 9 (dk_at dksJ2_grow_2_1 17 rfl rfl)
theorem dJ2_grow_2_44 : decode cJ2_grow_2 44 = .ok (.areturn, 1) := dk_176 (dk_at dksJ2_grow_2_1 20 rfl rfl)
theorem dJ2_grow_2_45 : decode cJ2_grow_2 45 = .ok (.aload_n 0, 1) := dk_42 (dk_at dksJ2_grow_2_1 21 rfl rfl)
theorem dJ2_grow_2_46 : decode cJ2_grow_2 46 = .ok (.bipush 10, 2) := dk_16 10 (dk_at dksJ2_grow_2_1 22 rfl rfl)
theorem dJ2_grow_2_48 : decode cJ2_grow_2 48 = .ok (.iload_n 1, 1) := dk_27 (dk_at dksJ2_grow_2_2 0 rfl rfl)
theorem dJ2_grow_2_49 : decode cJ2_grow_2 49 = .ok (.invokestatic 79, 3) := dk_184 0 79 (dk_at dksJ2_grow_2_2 1 rfl rfl)
theorem dJ2_grow_2_52 : decode cJ2_grow_2 52 = .ok (.anewarray 7, 3) := dk_189 0 7 (dk_at dksJ2_grow_2_2 4 rfl rfl)
theorem dJ2_grow_2_55 : decode cJ2_grow_2 55 = .ok (.dup_x1, 1) := dk_90 (dk_at dksJ2_grow_2_2 7 rfl rfl)
theorem dJ2_grow_2_56 : decode cJ2_grow_2 56 = .ok (.putfield 9, 3) := dk_181 0 9 (dk_at dksJ2_grow_2_2 8 rfl rfl)
theorem dJ2_grow_2_59 : decode cJ2_grow_2 59 = .ok (.areturn, 1) := dk_176 (dk_at dksJ2_grow_2_2 11 rfl rfl)
abbrev cJ2_size : ByteArray := prog_38_method_8_code
def yJ2_size : MethodName := ⟨RJ2, "size", "()I"⟩
theorem dJ2_size_0 : decode cJ2_size 0 = .ok (.aload_n 0, 1) := by decide +kernel
theorem dJ2_size_1 : decode cJ2_size 1 = .ok (.getfield 48, 3) := by decide +kernel
theorem dJ2_size_4 : decode cJ2_size 4 = .ok (.ireturn, 1) := by decide +kernel
abbrev cJ2_remove : ByteArray := prog_38_method_29_code
def yJ2_remove : MethodName := ⟨RJ2, "remove", "(I)Ljava/lang/Object;"⟩
def dkwJ2_remove_1 : List UInt8 := [45, 176]
abbrev dktJ2_remove_1 : List UInt8 := dkwJ2_remove_1 ++ []
def dkwJ2_remove_0 : List UInt8 := [27, 42, 180, 0, 48, 184, 0, 118, 87, 42, 180, 0, 9, 77, 44, 27, 50, 78, 42, 44, 27, 182, 0, 144]
abbrev dktJ2_remove_0 : List UInt8 := dkwJ2_remove_0 ++ dktJ2_remove_1
theorem dksJ2_remove_0 : cJ2_remove.data.toList.drop 0 = dktJ2_remove_0 := by decide +kernel
theorem dksJ2_remove_1 : cJ2_remove.data.toList.drop 24 = dktJ2_remove_1 := dk_seg dksJ2_remove_0 24 rfl rfl
theorem dJ2_remove_0 : decode cJ2_remove 0 = .ok (.iload_n 1, 1) := dk_27 (dk_at dksJ2_remove_0 0 rfl rfl)
theorem dJ2_remove_1 : decode cJ2_remove 1 = .ok (.aload_n 0, 1) := dk_42 (dk_at dksJ2_remove_0 1 rfl rfl)
theorem dJ2_remove_2 : decode cJ2_remove 2 = .ok (.getfield 48, 3) := dk_180 0 48 (dk_at dksJ2_remove_0 2 rfl rfl)
theorem dJ2_remove_5 : decode cJ2_remove 5 = .ok (.invokestatic 118, 3) := dk_184 0 118 (dk_at dksJ2_remove_0 5 rfl rfl)
theorem dJ2_remove_8 : decode cJ2_remove 8 = .ok (.pop, 1) := dk_87 (dk_at dksJ2_remove_0 8 rfl rfl)
theorem dJ2_remove_9 : decode cJ2_remove 9 = .ok (.aload_n 0, 1) := dk_42 (dk_at dksJ2_remove_0 9 rfl rfl)
theorem dJ2_remove_10 : decode cJ2_remove 10 = .ok (.getfield 9, 3) := dk_180 0 9 (dk_at dksJ2_remove_0 10 rfl rfl)
theorem dJ2_remove_13 : decode cJ2_remove 13 = .ok (.astore_n 2, 1) := dk_77 (dk_at dksJ2_remove_0 13 rfl rfl)
theorem dJ2_remove_14 : decode cJ2_remove 14 = .ok (.aload_n 2, 1) := dk_44 (dk_at dksJ2_remove_0 14 rfl rfl)
theorem dJ2_remove_15 : decode cJ2_remove 15 = .ok (.iload_n 1, 1) := dk_27 (dk_at dksJ2_remove_0 15 rfl rfl)
theorem dJ2_remove_16 : decode cJ2_remove 16 = .ok (.aaload, 1) := dk_50 (dk_at dksJ2_remove_0 16 rfl rfl)
theorem dJ2_remove_17 : decode cJ2_remove 17 = .ok (.astore_n 3, 1) := dk_78 (dk_at dksJ2_remove_0 17 rfl rfl)
theorem dJ2_remove_18 : decode cJ2_remove 18 = .ok (.aload_n 0, 1) := dk_42 (dk_at dksJ2_remove_0 18 rfl rfl)
theorem dJ2_remove_19 : decode cJ2_remove 19 = .ok (.aload_n 2, 1) := dk_44 (dk_at dksJ2_remove_0 19 rfl rfl)
theorem dJ2_remove_20 : decode cJ2_remove 20 = .ok (.iload_n 1, 1) := dk_27 (dk_at dksJ2_remove_0 20 rfl rfl)
theorem dJ2_remove_21 : decode cJ2_remove 21 = .ok (.invokevirtual 144, 3) := dk_182 0 144 (dk_at dksJ2_remove_0 21 rfl rfl)
theorem dJ2_remove_24 : decode cJ2_remove 24 = .ok (.aload_n 3, 1) := dk_45 (dk_at dksJ2_remove_1 0 rfl rfl)
theorem dJ2_remove_25 : decode cJ2_remove 25 = .ok (.areturn, 1) := dk_176 (dk_at dksJ2_remove_1 1 rfl rfl)
abbrev cJ2_fastRemove : ByteArray := prog_38_method_39_code
def yJ2_fastRemove : MethodName := ⟨RJ2, "fastRemove", "([Ljava/lang/Object;I)V"⟩
def dkwJ2_fastRemove_1 : List UInt8 := [4, 96, 43, 28, 29, 28, 100, 184, 0, 112, 43, 42, 29, 90, 181, 0, 48, 1, 83, 177]
abbrev dktJ2_fastRemove_1 : List UInt8 := dkwJ2_fastRemove_1 ++ []
def dkwJ2_fastRemove_0 : List UInt8 := [42, 89, 180, 0, 63, 4, 96, 181, 0, 63, 42, 180, 0, 48, 4, 100, 89, 62, 28, 164, 0, 15, 43, 28]
abbrev dktJ2_fastRemove_0 : List UInt8 := dkwJ2_fastRemove_0 ++ dktJ2_fastRemove_1
theorem dksJ2_fastRemove_0 : cJ2_fastRemove.data.toList.drop 0 = dktJ2_fastRemove_0 := by decide +kernel
theorem dksJ2_fastRemove_1 : cJ2_fastRemove.data.toList.drop 24 = dktJ2_fastRemove_1 := dk_seg dksJ2_fastRemove_0 24 rfl rfl
theorem dJ2_fastRemove_0 : decode cJ2_fastRemove 0 = .ok (.aload_n 0, 1) := dk_42 (dk_at dksJ2_fastRemove_0 0 rfl rfl)
theorem dJ2_fastRemove_1 : decode cJ2_fastRemove 1 = .ok (.dup, 1) := dk_89 (dk_at dksJ2_fastRemove_0 1 rfl rfl)
theorem dJ2_fastRemove_2 : decode cJ2_fastRemove 2 = .ok (.getfield 63, 3) := dk_180 0 63 (dk_at dksJ2_fastRemove_0 2 rfl rfl)
theorem dJ2_fastRemove_5 : decode cJ2_fastRemove 5 = .ok (.iconst 1, 1) := dk_4 (dk_at dksJ2_fastRemove_0 5 rfl rfl)
theorem dJ2_fastRemove_6 : decode cJ2_fastRemove 6 = .ok (.iadd, 1) := dk_96 (dk_at dksJ2_fastRemove_0 6 rfl rfl)
theorem dJ2_fastRemove_7 : decode cJ2_fastRemove 7 = .ok (.putfield 63, 3) := dk_181 0 63 (dk_at dksJ2_fastRemove_0 7 rfl rfl)
theorem dJ2_fastRemove_10 : decode cJ2_fastRemove 10 = .ok (.aload_n 0, 1) := dk_42 (dk_at dksJ2_fastRemove_0 10 rfl rfl)
theorem dJ2_fastRemove_11 : decode cJ2_fastRemove 11 = .ok (.getfield 48, 3) := dk_180 0 48 (dk_at dksJ2_fastRemove_0 11 rfl rfl)
theorem dJ2_fastRemove_14 : decode cJ2_fastRemove 14 = .ok (.iconst 1, 1) := dk_4 (dk_at dksJ2_fastRemove_0 14 rfl rfl)
theorem dJ2_fastRemove_15 : decode cJ2_fastRemove 15 = .ok (.isub, 1) := dk_100 (dk_at dksJ2_fastRemove_0 15 rfl rfl)
theorem dJ2_fastRemove_16 : decode cJ2_fastRemove 16 = .ok (.dup, 1) := dk_89 (dk_at dksJ2_fastRemove_0 16 rfl rfl)
theorem dJ2_fastRemove_17 : decode cJ2_fastRemove 17 = .ok (.istore_n 3, 1) := dk_62 (dk_at dksJ2_fastRemove_0 17 rfl rfl)
theorem dJ2_fastRemove_18 : decode cJ2_fastRemove 18 = .ok (.iload_n 2, 1) := dk_28 (dk_at dksJ2_fastRemove_0 18 rfl rfl)
theorem dJ2_fastRemove_19 : decode cJ2_fastRemove 19 = .ok (.if_icmp .le 15, 3) := dk_164 0 15 (dk_at dksJ2_fastRemove_0 19 rfl rfl)
theorem dJ2_fastRemove_22 : decode cJ2_fastRemove 22 = .ok (.aload_n 1, 1) := dk_43 (dk_at dksJ2_fastRemove_0 22 rfl rfl)
theorem dJ2_fastRemove_23 : decode cJ2_fastRemove 23 = .ok (.iload_n 2, 1) := dk_28 (dk_at dksJ2_fastRemove_0 23 rfl rfl)
theorem dJ2_fastRemove_24 : decode cJ2_fastRemove 24 = .ok (.iconst 1, 1) := dk_4 (dk_at dksJ2_fastRemove_1 0 rfl rfl)
theorem dJ2_fastRemove_25 : decode cJ2_fastRemove 25 = .ok (.iadd, 1) := dk_96 (dk_at dksJ2_fastRemove_1 1 rfl rfl)
theorem dJ2_fastRemove_26 : decode cJ2_fastRemove 26 = .ok (.aload_n 1, 1) := dk_43 (dk_at dksJ2_fastRemove_1 2 rfl rfl)
theorem dJ2_fastRemove_27 : decode cJ2_fastRemove 27 = .ok (.iload_n 2, 1) := dk_28 (dk_at dksJ2_fastRemove_1 3 rfl rfl)
theorem dJ2_fastRemove_28 : decode cJ2_fastRemove 28 = .ok (.iload_n 3, 1) := dk_29 (dk_at dksJ2_fastRemove_1 4 rfl rfl)
theorem dJ2_fastRemove_29 : decode cJ2_fastRemove 29 = .ok (.iload_n 2, 1) := dk_28 (dk_at dksJ2_fastRemove_1 5 rfl rfl)
theorem dJ2_fastRemove_30 : decode cJ2_fastRemove 30 = .ok (.isub, 1) := dk_100 (dk_at dksJ2_fastRemove_1 6 rfl rfl)
theorem dJ2_fastRemove_31 : decode cJ2_fastRemove 31 = .ok (.invokestatic 112, 3) := dk_184 0 112 (dk_at dksJ2_fastRemove_1 7 rfl rfl)
theorem dJ2_fastRemove_34 : decode cJ2_fastRemove 34 = .ok (.aload_n 1, 1) := dk_43 (dk_at dksJ2_fastRemove_1 10 rfl rfl)
theorem dJ2_fastRemove_35 : decode cJ2_fastRemove 35 = .ok (.aload_n 0, 1) := dk_42 (dk_at dksJ2_fastRemove_1 11 rfl rfl)
theorem dJ2_fastRemove_36 : decode cJ2_fastRemove 36 = .ok (.iload_n 3, 1) := dk_29 (dk_at dksJ2_fastRemove_1 12 rfl rfl)
theorem dJ2_fastRemove_37 : decode cJ2_fastRemove 37 = .ok (.dup_x1, 1) := dk_90 (dk_at dksJ2_fastRemove_1 13 rfl rfl)
theorem dJ2_fastRemove_38 : decode cJ2_fastRemove 38 = .ok (.putfield 48, 3) := dk_181 0 48 (dk_at dksJ2_fastRemove_1 14 rfl rfl)
theorem dJ2_fastRemove_41 : decode cJ2_fastRemove 41 = .ok (.aconst_null, 1) := dk_1 (dk_at dksJ2_fastRemove_1 17 rfl rfl)
theorem dJ2_fastRemove_42 : decode cJ2_fastRemove 42 = .ok (.aastore, 1) := dk_83 (dk_at dksJ2_fastRemove_1 18 rfl rfl)
theorem dJ2_fastRemove_43 : decode cJ2_fastRemove 43 = .ok (.return_, 1) := dk_177 (dk_at dksJ2_fastRemove_1 19 rfl rfl)
abbrev cJ2_get : ByteArray := prog_38_method_20_code
def yJ2_get : MethodName := ⟨RJ2, "get", "(I)Ljava/lang/Object;"⟩
def dkwJ2_get_0 : List UInt8 := [27, 42, 180, 0, 48, 184, 0, 118, 87, 42, 27, 182, 0, 123, 176]
abbrev dktJ2_get_0 : List UInt8 := dkwJ2_get_0 ++ []
theorem dksJ2_get_0 : cJ2_get.data.toList.drop 0 = dktJ2_get_0 := by decide +kernel
theorem dJ2_get_0 : decode cJ2_get 0 = .ok (.iload_n 1, 1) := dk_27 (dk_at dksJ2_get_0 0 rfl rfl)
theorem dJ2_get_1 : decode cJ2_get 1 = .ok (.aload_n 0, 1) := dk_42 (dk_at dksJ2_get_0 1 rfl rfl)
theorem dJ2_get_2 : decode cJ2_get 2 = .ok (.getfield 48, 3) := dk_180 0 48 (dk_at dksJ2_get_0 2 rfl rfl)
theorem dJ2_get_5 : decode cJ2_get 5 = .ok (.invokestatic 118, 3) := dk_184 0 118 (dk_at dksJ2_get_0 5 rfl rfl)
theorem dJ2_get_8 : decode cJ2_get 8 = .ok (.pop, 1) := dk_87 (dk_at dksJ2_get_0 8 rfl rfl)
theorem dJ2_get_9 : decode cJ2_get 9 = .ok (.aload_n 0, 1) := dk_42 (dk_at dksJ2_get_0 9 rfl rfl)
theorem dJ2_get_10 : decode cJ2_get 10 = .ok (.iload_n 1, 1) := dk_27 (dk_at dksJ2_get_0 10 rfl rfl)
theorem dJ2_get_11 : decode cJ2_get 11 = .ok (.invokevirtual 123, 3) := dk_182 0 123 (dk_at dksJ2_get_0 11 rfl rfl)
theorem dJ2_get_14 : decode cJ2_get 14 = .ok (.areturn, 1) := dk_176 (dk_at dksJ2_get_0 14 rfl rfl)
abbrev cJ2_elementData : ByteArray := prog_38_method_18_code
def yJ2_elementData : MethodName := ⟨RJ2, "elementData", "(I)Ljava/lang/Object;"⟩
def dkwJ2_elementData_0 : List UInt8 := [42, 180, 0, 9, 27, 50, 176]
abbrev dktJ2_elementData_0 : List UInt8 := dkwJ2_elementData_0 ++ []
theorem dksJ2_elementData_0 : cJ2_elementData.data.toList.drop 0 = dktJ2_elementData_0 := by decide +kernel
theorem dJ2_elementData_0 : decode cJ2_elementData 0 = .ok (.aload_n 0, 1) := dk_42 (dk_at dksJ2_elementData_0 0 rfl rfl)
theorem dJ2_elementData_1 : decode cJ2_elementData 1 = .ok (.getfield 9, 3) := dk_180 0 9 (dk_at dksJ2_elementData_0 1 rfl rfl)
theorem dJ2_elementData_4 : decode cJ2_elementData 4 = .ok (.iload_n 1, 1) := dk_27 (dk_at dksJ2_elementData_0 4 rfl rfl)
theorem dJ2_elementData_5 : decode cJ2_elementData 5 = .ok (.aaload, 1) := dk_50 (dk_at dksJ2_elementData_0 5 rfl rfl)
theorem dJ2_elementData_6 : decode cJ2_elementData 6 = .ok (.areturn, 1) := dk_176 (dk_at dksJ2_elementData_0 6 rfl rfl)
abbrev cJ2_isEmpty : ByteArray := prog_38_method_9_code
def yJ2_isEmpty : MethodName := ⟨RJ2, "isEmpty", "()Z"⟩
def dkwJ2_isEmpty_0 : List UInt8 := [42, 180, 0, 48, 154, 0, 7, 4, 167, 0, 4, 3, 172]
abbrev dktJ2_isEmpty_0 : List UInt8 := dkwJ2_isEmpty_0 ++ []
theorem dksJ2_isEmpty_0 : cJ2_isEmpty.data.toList.drop 0 = dktJ2_isEmpty_0 := by decide +kernel
theorem dJ2_isEmpty_0 : decode cJ2_isEmpty 0 = .ok (.aload_n 0, 1) := dk_42 (dk_at dksJ2_isEmpty_0 0 rfl rfl)
theorem dJ2_isEmpty_1 : decode cJ2_isEmpty 1 = .ok (.getfield 48, 3) := dk_180 0 48 (dk_at dksJ2_isEmpty_0 1 rfl rfl)
theorem dJ2_isEmpty_4 : decode cJ2_isEmpty 4 = .ok (.ifCond .ne 7, 3) := dk_154 0 7 (dk_at dksJ2_isEmpty_0 4 rfl rfl)
theorem dJ2_isEmpty_7 : decode cJ2_isEmpty 7 = .ok (.iconst 1, 1) := dk_4 (dk_at dksJ2_isEmpty_0 7 rfl rfl)
theorem dJ2_isEmpty_8 : decode cJ2_isEmpty 8 = .ok (.goto 4, 3) := dk_167 0 4 (dk_at dksJ2_isEmpty_0 8 rfl rfl)
theorem dJ2_isEmpty_11 : decode cJ2_isEmpty 11 = .ok (.iconst 0, 1) := dk_3 (dk_at dksJ2_isEmpty_0 11 rfl rfl)
theorem dJ2_isEmpty_12 : decode cJ2_isEmpty 12 = .ok (.ireturn, 1) := dk_172 (dk_at dksJ2_isEmpty_0 12 rfl rfl)
abbrev cJ2_init_2 : ByteArray := prog_38_method_3_code
def yJ2_init_2 : MethodName := ⟨RJ2, "<init>", "(Ljava/util/Collection;)V"⟩
def dkwJ2_init_2_2 : List UInt8 := [18, 56, 184, 0, 57, 181, 0, 9, 167, 0, 10, 42, 178, 0, 15, 181, 0, 9, 177]
abbrev dktJ2_init_2_2 : List UInt8 := dkwJ2_init_2_2 ++ []
def dkwJ2_init_2_1 : List UInt8 := [185, 0, 52, 1, 0, 18, 10, 166, 0, 11, 42, 44, 181, 0, 9, 167, 0, 27, 42, 44, 42, 180, 0, 48]
abbrev dktJ2_init_2_1 : List UInt8 := dkwJ2_init_2_1 ++ dktJ2_init_2_2
def dkwJ2_init_2_0 : List UInt8 := [42, 183, 0, 1, 43, 185, 0, 42, 1, 0, 77, 42, 44, 190, 90, 181, 0, 48, 153, 0, 39, 43]
abbrev dktJ2_init_2_0 : List UInt8 := dkwJ2_init_2_0 ++ dktJ2_init_2_1
theorem dksJ2_init_2_0 : cJ2_init_2.data.toList.drop 0 = dktJ2_init_2_0 := by decide +kernel
theorem dksJ2_init_2_1 : cJ2_init_2.data.toList.drop 22 = dktJ2_init_2_1 := dk_seg dksJ2_init_2_0 22 rfl rfl
theorem dksJ2_init_2_2 : cJ2_init_2.data.toList.drop 46 = dktJ2_init_2_2 := dk_seg dksJ2_init_2_1 24 rfl rfl
theorem dJ2_init_2_0 : decode cJ2_init_2 0 = .ok (.aload_n 0, 1) := dk_42 (dk_at dksJ2_init_2_0 0 rfl rfl)
theorem dJ2_init_2_1 : decode cJ2_init_2 1 = .ok (.invokespecial 1, 3) := dk_183 0 1 (dk_at dksJ2_init_2_0 1 rfl rfl)
theorem dJ2_init_2_4 : decode cJ2_init_2 4 = .ok (.aload_n 1, 1) := dk_43 (dk_at dksJ2_init_2_0 4 rfl rfl)
theorem dJ2_init_2_5 : decode cJ2_init_2 5 = .ok (.invokeinterface 42 1, 5) := by decide +kernel
theorem dJ2_init_2_10 : decode cJ2_init_2 10 = .ok (.astore_n 2, 1) := dk_77 (dk_at dksJ2_init_2_0 10 rfl rfl)
theorem dJ2_init_2_11 : decode cJ2_init_2 11 = .ok (.aload_n 0, 1) := dk_42 (dk_at dksJ2_init_2_0 11 rfl rfl)
theorem dJ2_init_2_12 : decode cJ2_init_2 12 = .ok (.aload_n 2, 1) := dk_44 (dk_at dksJ2_init_2_0 12 rfl rfl)
theorem dJ2_init_2_13 : decode cJ2_init_2 13 = .ok (.arraylength, 1) := dk_190 (dk_at dksJ2_init_2_0 13 rfl rfl)
theorem dJ2_init_2_14 : decode cJ2_init_2 14 = .ok (.dup_x1, 1) := dk_90 (dk_at dksJ2_init_2_0 14 rfl rfl)
theorem dJ2_init_2_15 : decode cJ2_init_2 15 = .ok (.putfield 48, 3) := dk_181 0 48 (dk_at dksJ2_init_2_0 15 rfl rfl)
theorem dJ2_init_2_18 : decode cJ2_init_2 18 = .ok (.ifCond .eq 39, 3) := dk_153 0 39 (dk_at dksJ2_init_2_0 18 rfl rfl)
theorem dJ2_init_2_21 : decode cJ2_init_2 21 = .ok (.aload_n 1, 1) := dk_43 (dk_at dksJ2_init_2_0 21 rfl rfl)
theorem dJ2_init_2_22 : decode cJ2_init_2 22 = .ok (.invokeinterface 52 1, 5) := by decide +kernel
theorem dJ2_init_2_27 : decode cJ2_init_2 27 = .ok (.ldc 10, 2) := dk_18 10 (dk_at dksJ2_init_2_1 5 rfl rfl)
theorem dJ2_init_2_29 : decode cJ2_init_2 29 = .ok (.if_acmp .ne 11, 3) := dk_166 0 11 (dk_at dksJ2_init_2_1 7 rfl rfl)
theorem dJ2_init_2_32 : decode cJ2_init_2 32 = .ok (.aload_n 0, 1) := dk_42 (dk_at dksJ2_init_2_1 10 rfl rfl)
theorem dJ2_init_2_33 : decode cJ2_init_2 33 = .ok (.aload_n 2, 1) := dk_44 (dk_at dksJ2_init_2_1 11 rfl rfl)
theorem dJ2_init_2_34 : decode cJ2_init_2 34 = .ok (.putfield 9, 3) := dk_181 0 9 (dk_at dksJ2_init_2_1 12 rfl rfl)
theorem dJ2_init_2_37 : decode cJ2_init_2 37 = .ok (.goto 27, 3) := dk_167 0 27 (dk_at dksJ2_init_2_1 15 rfl rfl)
theorem dJ2_init_2_40 : decode cJ2_init_2 40 = .ok (.aload_n 0, 1) := dk_42 (dk_at dksJ2_init_2_1 18 rfl rfl)
theorem dJ2_init_2_41 : decode cJ2_init_2 41 = .ok (.aload_n 2, 1) := dk_44 (dk_at dksJ2_init_2_1 19 rfl rfl)
theorem dJ2_init_2_42 : decode cJ2_init_2 42 = .ok (.aload_n 0, 1) := dk_42 (dk_at dksJ2_init_2_1 20 rfl rfl)
theorem dJ2_init_2_43 : decode cJ2_init_2 43 = .ok (.getfield 48, 3) := dk_180 0 48 (dk_at dksJ2_init_2_1 21 rfl rfl)
theorem dJ2_init_2_46 : decode cJ2_init_2 46 = .ok (.ldc 56, 2) := dk_18 56 (dk_at dksJ2_init_2_2 0 rfl rfl)
theorem dJ2_init_2_48 : decode cJ2_init_2 48 = .ok (.invokestatic 57, 3) := dk_184 0 57 (dk_at dksJ2_init_2_2 2 rfl rfl)
theorem dJ2_init_2_51 : decode cJ2_init_2 51 = .ok (.putfield 9, 3) := dk_181 0 9 (dk_at dksJ2_init_2_2 5 rfl rfl)
theorem dJ2_init_2_54 : decode cJ2_init_2 54 = .ok (.goto 10, 3) := dk_167 0 10 (dk_at dksJ2_init_2_2 8 rfl rfl)
theorem dJ2_init_2_57 : decode cJ2_init_2 57 = .ok (.aload_n 0, 1) := dk_42 (dk_at dksJ2_init_2_2 11 rfl rfl)
theorem dJ2_init_2_58 : decode cJ2_init_2 58 = .ok (.getstatic 15, 3) := dk_178 0 15 (dk_at dksJ2_init_2_2 12 rfl rfl)
theorem dJ2_init_2_61 : decode cJ2_init_2 61 = .ok (.putfield 9, 3) := dk_181 0 9 (dk_at dksJ2_init_2_2 15 rfl rfl)
theorem dJ2_init_2_64 : decode cJ2_init_2 64 = .ok (.return_, 1) := dk_177 (dk_at dksJ2_init_2_2 18 rfl rfl)
abbrev cJ2_toArray : ByteArray := prog_38_method_16_code
def yJ2_toArray : MethodName := ⟨RJ2, "toArray", "()[Ljava/lang/Object;"⟩
def dkwJ2_toArray_0 : List UInt8 := [42, 180, 0, 9, 42, 180, 0, 48, 184, 0, 66, 176]
abbrev dktJ2_toArray_0 : List UInt8 := dkwJ2_toArray_0 ++ []
theorem dksJ2_toArray_0 : cJ2_toArray.data.toList.drop 0 = dktJ2_toArray_0 := by decide +kernel
theorem dJ2_toArray_0 : decode cJ2_toArray 0 = .ok (.aload_n 0, 1) := dk_42 (dk_at dksJ2_toArray_0 0 rfl rfl)
theorem dJ2_toArray_1 : decode cJ2_toArray 1 = .ok (.getfield 9, 3) := dk_180 0 9 (dk_at dksJ2_toArray_0 1 rfl rfl)
theorem dJ2_toArray_4 : decode cJ2_toArray 4 = .ok (.aload_n 0, 1) := dk_42 (dk_at dksJ2_toArray_0 4 rfl rfl)
theorem dJ2_toArray_5 : decode cJ2_toArray 5 = .ok (.getfield 48, 3) := dk_180 0 48 (dk_at dksJ2_toArray_0 5 rfl rfl)
theorem dJ2_toArray_8 : decode cJ2_toArray 8 = .ok (.invokestatic 66, 3) := dk_184 0 66 (dk_at dksJ2_toArray_0 8 rfl rfl)
theorem dJ2_toArray_11 : decode cJ2_toArray 11 = .ok (.areturn, 1) := dk_176 (dk_at dksJ2_toArray_0 11 rfl rfl)
theorem q139 : (Jvm.Cond.initialized "java/util/ArrayList") ∈ lw_all := lw_g (lw_at lw_m1 5 rfl) rfl
theorem q183 : (Jvm.Cond.instantiable "java/util/ArrayList" (3 : Nat)) ∈ lw_all := lw_g (lw_at lw_m1 49 rfl) rfl
theorem q185 : (Jvm.Cond.instanceMethod ({ cls := "java/util/ArrayList", name := "<init>", desc := "()V" } : Jvm.MethodName)) ∈ lw_all := lw_g (lw_at lw_m1 51 rfl) rfl
theorem q186 : (Jvm.Cond.code ({ cls := "java/util/ArrayList", name := "<init>", desc := "()V" } : Jvm.MethodName) prog_38_method_2_code (1 : Nat) (Option.none : Option Jvm.ClassFile.FieldType)) ∈ lw_all := lw_g (lw_at lw_m1 52 rfl) rfl
theorem q187 : (Jvm.Cond.methodLink "java/util/ArrayList" (1 : Nat) ({ cls := "java/util/AbstractList", name := "<init>", desc := "()V" } : Jvm.MethodName)) ∈ lw_all := lw_g (lw_at lw_m1 53 rfl) rfl
theorem q194 : (Jvm.Cond.fieldLink "java/util/ArrayList" (39 : Nat) "java/util/ArrayList" "DEFAULTCAPACITY_EMPTY_ELEMENTDATA" "[Ljava/lang/Object;") ∈ lw_all := lw_g (lw_at lw_m1 60 rfl) rfl
theorem q195 : (Jvm.Cond.laysStatic "java/util/ArrayList" "DEFAULTCAPACITY_EMPTY_ELEMENTDATA" "[Ljava/lang/Object;") ∈ lw_tbl := lw_at lw_m1 61 rfl
theorem q196 : (Jvm.Cond.fieldLink "java/util/ArrayList" (9 : Nat) "java/util/ArrayList" "elementData" "[Ljava/lang/Object;") ∈ lw_all := lw_g (lw_at lw_m1 62 rfl) rfl
theorem q197 : (Jvm.Cond.fieldLink "java/util/ArrayList" (48 : Nat) "java/util/ArrayList" "size" "I") ∈ lw_all := lw_g (lw_at lw_m1 63 rfl) rfl
theorem q199 : (Jvm.Cond.fieldLink "java/util/ArrayList" (63 : Nat) "java/util/ArrayList" "modCount" "I") ∈ lw_all := lw_g (lw_at lw_m1 65 rfl) rfl
theorem q200 : (Jvm.Cond.sameField "java/util/ArrayList" "java/util/AbstractList" "modCount" "I") ∈ lw_all := lw_g (lw_at lw_m1 66 rfl) rfl
theorem q201 : (Jvm.Cond.lays "java/util/ArrayList" "java/util/ArrayList" "elementData" "[Ljava/lang/Object;") ∈ lw_all := lw_g (lw_at lw_m1 67 rfl) rfl
theorem q202 : (Jvm.Cond.soleField "java/util/ArrayList" "elementData") ∈ lw_all := lw_g (lw_at lw_m1 68 rfl) rfl
theorem q203 : (Jvm.Cond.lays "java/util/ArrayList" "java/util/ArrayList" "size" "I") ∈ lw_all := lw_g (lw_at lw_m1 69 rfl) rfl
theorem q204 : (Jvm.Cond.soleField "java/util/ArrayList" "size") ∈ lw_all := lw_g (lw_at lw_m1 70 rfl) rfl
theorem q205 : (Jvm.Cond.lays "java/util/ArrayList" "java/util/AbstractList" "modCount" "I") ∈ lw_all := lw_g (lw_at lw_m1 71 rfl) rfl
theorem q207 : (Jvm.Cond.superclass "java/util/ArrayList" "java/util/AbstractList") ∈ lw_all := lw_g (lw_at lw_m1 73 rfl) rfl
theorem q358 : (Jvm.Cond.castable "java/util/ArrayList" "java/util/List") ∈ lw_tbl := lw_at lw_m1 224 rfl
theorem q359 : (Jvm.Cond.selects "java/util/ArrayList" ({ cls := "java/util/List", name := "add", desc := "(Ljava/lang/Object;)Z" } : Jvm.MethodName) ({ cls := "java/util/ArrayList", name := "add", desc := "(Ljava/lang/Object;)Z" } : Jvm.MethodName)) ∈ lw_all := lw_g (lw_at lw_m1 225 rfl) rfl
theorem q360 : (Jvm.Cond.unhidden "java/util/ArrayList" "add" "(Ljava/lang/Object;)Z") ∈ lw_tbl := lw_at lw_m1 226 rfl
theorem q361 : (Jvm.Cond.instanceMethod ({ cls := "java/util/ArrayList", name := "add", desc := "(Ljava/lang/Object;)Z" } : Jvm.MethodName)) ∈ lw_all := lw_g (lw_at lw_m1 227 rfl) rfl
theorem q362 : (Jvm.Cond.publicMethod ({ cls := "java/util/ArrayList", name := "add", desc := "(Ljava/lang/Object;)Z" } : Jvm.MethodName)) ∈ lw_tbl := lw_at lw_m1 228 rfl
theorem q363 : (Jvm.Cond.code ({ cls := "java/util/ArrayList", name := "add", desc := "(Ljava/lang/Object;)Z" } : Jvm.MethodName) prog_38_method_25_code (2 : Nat) (Option.some Jvm.ClassFile.FieldType.boolean)) ∈ lw_all := lw_g (lw_at lw_m1 229 rfl) rfl
theorem q364 : (Jvm.Cond.methodLink "java/util/ArrayList" (131 : Nat) ({ cls := "java/util/ArrayList", name := "add", desc := "(Ljava/lang/Object;[Ljava/lang/Object;I)V" } : Jvm.MethodName)) ∈ lw_all := lw_g (lw_at lw_m1 230 rfl) rfl
theorem q365 : (Jvm.Cond.privateMethod ({ cls := "java/util/ArrayList", name := "add", desc := "(Ljava/lang/Object;[Ljava/lang/Object;I)V" } : Jvm.MethodName)) ∈ lw_tbl := lw_at lw_m1 231 rfl
theorem q366 : (Jvm.Cond.instanceMethod ({ cls := "java/util/ArrayList", name := "add", desc := "(Ljava/lang/Object;[Ljava/lang/Object;I)V" } : Jvm.MethodName)) ∈ lw_all := lw_g (lw_at lw_m1 232 rfl) rfl
theorem q367 : (Jvm.Cond.code ({ cls := "java/util/ArrayList", name := "add", desc := "(Ljava/lang/Object;[Ljava/lang/Object;I)V" } : Jvm.MethodName) prog_38_method_24_code (4 : Nat) (Option.none : Option Jvm.ClassFile.FieldType)) ∈ lw_all := lw_g (lw_at lw_m1 233 rfl) rfl
theorem q368 : (Jvm.Cond.methodLink "java/util/ArrayList" (129 : Nat) ({ cls := "java/util/ArrayList", name := "grow", desc := "()[Ljava/lang/Object;" } : Jvm.MethodName)) ∈ lw_all := lw_g (lw_at lw_m1 234 rfl) rfl
theorem q369 : (Jvm.Cond.privateMethod ({ cls := "java/util/ArrayList", name := "grow", desc := "()[Ljava/lang/Object;" } : Jvm.MethodName)) ∈ lw_tbl := lw_at lw_m1 235 rfl
theorem q370 : (Jvm.Cond.instanceMethod ({ cls := "java/util/ArrayList", name := "grow", desc := "()[Ljava/lang/Object;" } : Jvm.MethodName)) ∈ lw_all := lw_g (lw_at lw_m1 236 rfl) rfl
theorem q371 : (Jvm.Cond.code ({ cls := "java/util/ArrayList", name := "grow", desc := "()[Ljava/lang/Object;" } : Jvm.MethodName) prog_38_method_7_code (1 : Nat) (Option.some (Jvm.ClassFile.FieldType.array (Jvm.ClassFile.FieldType.object "java/lang/Object")))) ∈ lw_all := lw_g (lw_at lw_m1 237 rfl) rfl
theorem q372 : (Jvm.Cond.methodLink "java/util/ArrayList" (69 : Nat) ({ cls := "java/util/ArrayList", name := "grow", desc := "(I)[Ljava/lang/Object;" } : Jvm.MethodName)) ∈ lw_all := lw_g (lw_at lw_m1 238 rfl) rfl
theorem q373 : (Jvm.Cond.privateMethod ({ cls := "java/util/ArrayList", name := "grow", desc := "(I)[Ljava/lang/Object;" } : Jvm.MethodName)) ∈ lw_tbl := lw_at lw_m1 239 rfl
theorem q374 : (Jvm.Cond.instanceMethod ({ cls := "java/util/ArrayList", name := "grow", desc := "(I)[Ljava/lang/Object;" } : Jvm.MethodName)) ∈ lw_all := lw_g (lw_at lw_m2 0 rfl) rfl
theorem q375 : (Jvm.Cond.code ({ cls := "java/util/ArrayList", name := "grow", desc := "(I)[Ljava/lang/Object;" } : Jvm.MethodName) prog_38_method_6_code (4 : Nat) (Option.some (Jvm.ClassFile.FieldType.array (Jvm.ClassFile.FieldType.object "java/lang/Object")))) ∈ lw_all := lw_g (lw_at lw_m2 1 rfl) rfl
theorem q376 : (Jvm.Cond.methodLink "java/util/ArrayList" (73 : Nat) ({ cls := "jdk/internal/util/ArraysSupport", name := "newLength", desc := "(III)I" } : Jvm.MethodName)) ∈ lw_all := lw_g (lw_at lw_m2 2 rfl) rfl
theorem q386 : (Jvm.Cond.methodLink "java/util/ArrayList" (66 : Nat) ({ cls := "java/util/Arrays", name := "copyOf", desc := "([Ljava/lang/Object;I)[Ljava/lang/Object;" } : Jvm.MethodName)) ∈ lw_all := lw_g (lw_at lw_m2 12 rfl) rfl
theorem q405 : (Jvm.Cond.selects "java/util/ArrayList" ({ cls := "java/lang/Object", name := "getClass", desc := "()Ljava/lang/Class;" } : Jvm.MethodName) ({ cls := "java/lang/Object", name := "getClass", desc := "()Ljava/lang/Class;" } : Jvm.MethodName)) ∈ lw_all := lw_g (lw_at lw_m2 31 rfl) rfl
theorem q420 : (Jvm.Cond.methodLink "java/util/ArrayList" (79 : Nat) ({ cls := "java/lang/Math", name := "max", desc := "(II)I" } : Jvm.MethodName)) ∈ lw_all := lw_g (lw_at lw_m2 46 rfl) rfl
theorem q421 : (Jvm.Cond.classLink "java/util/ArrayList" (7 : Nat) "java/lang/Object") ∈ lw_all := lw_g (lw_at lw_m2 47 rfl) rfl
theorem q426 : (Jvm.Cond.selects "java/util/ArrayList" ({ cls := "java/util/List", name := "size", desc := "()I" } : Jvm.MethodName) ({ cls := "java/util/ArrayList", name := "size", desc := "()I" } : Jvm.MethodName)) ∈ lw_all := lw_g (lw_at lw_m2 52 rfl) rfl
theorem q427 : (Jvm.Cond.unhidden "java/util/ArrayList" "size" "()I") ∈ lw_tbl := lw_at lw_m2 53 rfl
theorem q428 : (Jvm.Cond.instanceMethod ({ cls := "java/util/ArrayList", name := "size", desc := "()I" } : Jvm.MethodName)) ∈ lw_all := lw_g (lw_at lw_m2 54 rfl) rfl
theorem q429 : (Jvm.Cond.publicMethod ({ cls := "java/util/ArrayList", name := "size", desc := "()I" } : Jvm.MethodName)) ∈ lw_tbl := lw_at lw_m2 55 rfl
theorem q430 : (Jvm.Cond.code ({ cls := "java/util/ArrayList", name := "size", desc := "()I" } : Jvm.MethodName) prog_38_method_8_code (1 : Nat) (Option.some Jvm.ClassFile.FieldType.int)) ∈ lw_all := lw_g (lw_at lw_m2 56 rfl) rfl
theorem q435 : (Jvm.Cond.selects "java/util/ArrayList" ({ cls := "java/util/List", name := "remove", desc := "(I)Ljava/lang/Object;" } : Jvm.MethodName) ({ cls := "java/util/ArrayList", name := "remove", desc := "(I)Ljava/lang/Object;" } : Jvm.MethodName)) ∈ lw_all := lw_g (lw_at lw_m2 61 rfl) rfl
theorem q436 : (Jvm.Cond.unhidden "java/util/ArrayList" "remove" "(I)Ljava/lang/Object;") ∈ lw_tbl := lw_at lw_m2 62 rfl
theorem q437 : (Jvm.Cond.instanceMethod ({ cls := "java/util/ArrayList", name := "remove", desc := "(I)Ljava/lang/Object;" } : Jvm.MethodName)) ∈ lw_all := lw_g (lw_at lw_m2 63 rfl) rfl
theorem q438 : (Jvm.Cond.publicMethod ({ cls := "java/util/ArrayList", name := "remove", desc := "(I)Ljava/lang/Object;" } : Jvm.MethodName)) ∈ lw_tbl := lw_at lw_m2 64 rfl
theorem q439 : (Jvm.Cond.code ({ cls := "java/util/ArrayList", name := "remove", desc := "(I)Ljava/lang/Object;" } : Jvm.MethodName) prog_38_method_29_code (4 : Nat) (Option.some (Jvm.ClassFile.FieldType.object "java/lang/Object"))) ∈ lw_all := lw_g (lw_at lw_m2 65 rfl) rfl
theorem q440 : (Jvm.Cond.methodLink "java/util/ArrayList" (118 : Nat) ({ cls := "java/util/Objects", name := "checkIndex", desc := "(II)I" } : Jvm.MethodName)) ∈ lw_all := lw_g (lw_at lw_m2 66 rfl) rfl
theorem q446 : (Jvm.Cond.methodLink "java/util/ArrayList" (144 : Nat) ({ cls := "java/util/ArrayList", name := "fastRemove", desc := "([Ljava/lang/Object;I)V" } : Jvm.MethodName)) ∈ lw_all := lw_g (lw_at lw_m2 72 rfl) rfl
theorem q447 : (Jvm.Cond.privateMethod ({ cls := "java/util/ArrayList", name := "fastRemove", desc := "([Ljava/lang/Object;I)V" } : Jvm.MethodName)) ∈ lw_tbl := lw_at lw_m2 73 rfl
theorem q448 : (Jvm.Cond.instanceMethod ({ cls := "java/util/ArrayList", name := "fastRemove", desc := "([Ljava/lang/Object;I)V" } : Jvm.MethodName)) ∈ lw_all := lw_g (lw_at lw_m2 74 rfl) rfl
theorem q449 : (Jvm.Cond.code ({ cls := "java/util/ArrayList", name := "fastRemove", desc := "([Ljava/lang/Object;I)V" } : Jvm.MethodName) prog_38_method_39_code (4 : Nat) (Option.none : Option Jvm.ClassFile.FieldType)) ∈ lw_all := lw_g (lw_at lw_m2 75 rfl) rfl
theorem q450 : (Jvm.Cond.methodLink "java/util/ArrayList" (112 : Nat) ({ cls := "java/lang/System", name := "arraycopy", desc := "(Ljava/lang/Object;ILjava/lang/Object;II)V" } : Jvm.MethodName)) ∈ lw_all := lw_g (lw_at lw_m2 76 rfl) rfl
theorem q481 : (Jvm.Cond.selects "java/util/ArrayList" ({ cls := "java/util/List", name := "get", desc := "(I)Ljava/lang/Object;" } : Jvm.MethodName) ({ cls := "java/util/ArrayList", name := "get", desc := "(I)Ljava/lang/Object;" } : Jvm.MethodName)) ∈ lw_all := lw_g (lw_at lw_m2 107 rfl) rfl
theorem q482 : (Jvm.Cond.unhidden "java/util/ArrayList" "get" "(I)Ljava/lang/Object;") ∈ lw_tbl := lw_at lw_m2 108 rfl
theorem q483 : (Jvm.Cond.instanceMethod ({ cls := "java/util/ArrayList", name := "get", desc := "(I)Ljava/lang/Object;" } : Jvm.MethodName)) ∈ lw_all := lw_g (lw_at lw_m2 109 rfl) rfl
theorem q484 : (Jvm.Cond.publicMethod ({ cls := "java/util/ArrayList", name := "get", desc := "(I)Ljava/lang/Object;" } : Jvm.MethodName)) ∈ lw_tbl := lw_at lw_m2 110 rfl
theorem q485 : (Jvm.Cond.code ({ cls := "java/util/ArrayList", name := "get", desc := "(I)Ljava/lang/Object;" } : Jvm.MethodName) prog_38_method_20_code (2 : Nat) (Option.some (Jvm.ClassFile.FieldType.object "java/lang/Object"))) ∈ lw_all := lw_g (lw_at lw_m2 111 rfl) rfl
theorem q486 : (Jvm.Cond.methodLink "java/util/ArrayList" (123 : Nat) ({ cls := "java/util/ArrayList", name := "elementData", desc := "(I)Ljava/lang/Object;" } : Jvm.MethodName)) ∈ lw_all := lw_g (lw_at lw_m2 112 rfl) rfl
theorem q487 : (Jvm.Cond.instanceMethod ({ cls := "java/util/ArrayList", name := "elementData", desc := "(I)Ljava/lang/Object;" } : Jvm.MethodName)) ∈ lw_all := lw_g (lw_at lw_m2 113 rfl) rfl
theorem q488 : (Jvm.Cond.selects "java/util/ArrayList" ({ cls := "java/util/ArrayList", name := "elementData", desc := "(I)Ljava/lang/Object;" } : Jvm.MethodName) ({ cls := "java/util/ArrayList", name := "elementData", desc := "(I)Ljava/lang/Object;" } : Jvm.MethodName)) ∈ lw_all := lw_g (lw_at lw_m2 114 rfl) rfl
theorem q489 : (Jvm.Cond.code ({ cls := "java/util/ArrayList", name := "elementData", desc := "(I)Ljava/lang/Object;" } : Jvm.MethodName) prog_38_method_18_code (2 : Nat) (Option.some (Jvm.ClassFile.FieldType.object "java/lang/Object"))) ∈ lw_all := lw_g (lw_at lw_m2 115 rfl) rfl
theorem q633 : (Jvm.Cond.selects "java/util/ArrayList" ({ cls := "java/util/List", name := "isEmpty", desc := "()Z" } : Jvm.MethodName) ({ cls := "java/util/ArrayList", name := "isEmpty", desc := "()Z" } : Jvm.MethodName)) ∈ lw_all := lw_g (lw_at lw_m3 19 rfl) rfl
theorem q634 : (Jvm.Cond.unhidden "java/util/ArrayList" "isEmpty" "()Z") ∈ lw_tbl := lw_at lw_m3 20 rfl
theorem q635 : (Jvm.Cond.instanceMethod ({ cls := "java/util/ArrayList", name := "isEmpty", desc := "()Z" } : Jvm.MethodName)) ∈ lw_all := lw_g (lw_at lw_m3 21 rfl) rfl
theorem q636 : (Jvm.Cond.publicMethod ({ cls := "java/util/ArrayList", name := "isEmpty", desc := "()Z" } : Jvm.MethodName)) ∈ lw_tbl := lw_at lw_m3 22 rfl
theorem q637 : (Jvm.Cond.code ({ cls := "java/util/ArrayList", name := "isEmpty", desc := "()Z" } : Jvm.MethodName) prog_38_method_9_code (1 : Nat) (Option.some Jvm.ClassFile.FieldType.boolean)) ∈ lw_all := lw_g (lw_at lw_m3 23 rfl) rfl
theorem q655 : (Jvm.Cond.instanceMethod ({ cls := "java/util/ArrayList", name := "<init>", desc := "(Ljava/util/Collection;)V" } : Jvm.MethodName)) ∈ lw_all := lw_g (lw_at lw_m3 41 rfl) rfl
theorem q656 : (Jvm.Cond.code ({ cls := "java/util/ArrayList", name := "<init>", desc := "(Ljava/util/Collection;)V" } : Jvm.MethodName) prog_38_method_3_code (3 : Nat) (Option.none : Option Jvm.ClassFile.FieldType)) ∈ lw_all := lw_g (lw_at lw_m3 42 rfl) rfl
theorem q657 : (Jvm.Cond.interfaceEntry "java/util/ArrayList" (42 : Nat)) ∈ lw_tbl := lw_at lw_m3 43 rfl
theorem q658 : (Jvm.Cond.methodLink "java/util/ArrayList" (42 : Nat) ({ cls := "java/util/Collection", name := "toArray", desc := "()[Ljava/lang/Object;" } : Jvm.MethodName)) ∈ lw_all := lw_g (lw_at lw_m3 44 rfl) rfl
theorem q661 : (Jvm.Cond.castable "java/util/ArrayList" "java/util/Collection") ∈ lw_tbl := lw_at lw_m3 47 rfl
theorem q662 : (Jvm.Cond.selects "java/util/ArrayList" ({ cls := "java/util/Collection", name := "toArray", desc := "()[Ljava/lang/Object;" } : Jvm.MethodName) ({ cls := "java/util/ArrayList", name := "toArray", desc := "()[Ljava/lang/Object;" } : Jvm.MethodName)) ∈ lw_all := lw_g (lw_at lw_m3 48 rfl) rfl
theorem q663 : (Jvm.Cond.unhidden "java/util/ArrayList" "toArray" "()[Ljava/lang/Object;") ∈ lw_tbl := lw_at lw_m3 49 rfl
theorem q664 : (Jvm.Cond.instanceMethod ({ cls := "java/util/ArrayList", name := "toArray", desc := "()[Ljava/lang/Object;" } : Jvm.MethodName)) ∈ lw_all := lw_g (lw_at lw_m3 50 rfl) rfl
theorem q665 : (Jvm.Cond.publicMethod ({ cls := "java/util/ArrayList", name := "toArray", desc := "()[Ljava/lang/Object;" } : Jvm.MethodName)) ∈ lw_tbl := lw_at lw_m3 51 rfl
theorem q666 : (Jvm.Cond.code ({ cls := "java/util/ArrayList", name := "toArray", desc := "()[Ljava/lang/Object;" } : Jvm.MethodName) prog_38_method_16_code (1 : Nat) (Option.some (Jvm.ClassFile.FieldType.array (Jvm.ClassFile.FieldType.object "java/lang/Object")))) ∈ lw_all := lw_g (lw_at lw_m3 52 rfl) rfl
theorem q667 : (Jvm.Cond.interfaceEntry "java/util/ArrayList" (52 : Nat)) ∈ lw_tbl := lw_at lw_m3 53 rfl
theorem q668 : (Jvm.Cond.methodLink "java/util/ArrayList" (52 : Nat) ({ cls := "java/util/Collection", name := "getClass", desc := "()Ljava/lang/Class;" } : Jvm.MethodName)) ∈ lw_all := lw_g (lw_at lw_m3 54 rfl) rfl
theorem q671 : (Jvm.Cond.unhidden "java/util/ArrayList" "getClass" "()Ljava/lang/Class;") ∈ lw_tbl := lw_at lw_m3 57 rfl
theorem q673 : (Jvm.Cond.classLink "java/util/ArrayList" (10 : Nat) "java/util/ArrayList") ∈ lw_all := lw_g (lw_at lw_m3 59 rfl) rfl
theorem q674 : (Jvm.Cond.classLink "java/util/ArrayList" (56 : Nat) "[Ljava/lang/Object;") ∈ lw_all := lw_g (lw_at lw_m3 60 rfl) rfl
theorem q675 : (Jvm.Cond.methodLink "java/util/ArrayList" (57 : Nat) ({ cls := "java/util/Arrays", name := "copyOf", desc := "([Ljava/lang/Object;ILjava/lang/Class;)[Ljava/lang/Object;" } : Jvm.MethodName)) ∈ lw_all := lw_g (lw_at lw_m3 61 rfl) rfl
theorem q676 : (Jvm.Cond.fieldLink "java/util/ArrayList" (15 : Nat) "java/util/ArrayList" "EMPTY_ELEMENTDATA" "[Ljava/lang/Object;") ∈ lw_all := lw_g (lw_at lw_m3 62 rfl) rfl
theorem q677 : (Jvm.Cond.laysStatic "java/util/ArrayList" "EMPTY_ELEMENTDATA" "[Ljava/lang/Object;") ∈ lw_tbl := lw_at lw_m3 63 rfl
theorem q2359 : (Jvm.Cond.castable "java/util/ArrayList" "java/lang/Object") ∈ lw_tbl := lw_at lw_m10 65 rfl
theorem in_J2 : ∀ w ∈ wsJ20, w ∈ lw_all := lw_in wsJ20 [205, 201, 203] (by decide +kernel) (by decide +kernel)

/-! java/util/NoSuchElementException -/
set_option maxRecDepth 100000
def RJ20 : String := "java/util/NoSuchElementException"
def TJ20 : u_T := fun k => match k with
  | 0 => ("java/lang/Throwable", "cause", "Ljava/lang/Throwable;", false)
  | 1 => ("java/lang/Throwable", "stackTrace", "[Ljava/lang/StackTraceElement;", false)
  | 2 => ("java/lang/Throwable", "suppressedExceptions", "Ljava/util/List;", false)
  | 3 => ("java/lang/Throwable", "detailMessage", "Ljava/lang/String;", false)
  | 4 => ("java/lang/Throwable", "backtrace", "Ljava/lang/Object;", false)
  | _ => ("java/lang/Throwable", "depth", "I", false)
def tyJ20 : Nat → FieldType := fun k => match k with
  | 0 => .object "java/lang/Throwable"
  | 1 => .array (.object "java/lang/StackTraceElement")
  | 2 => .object "java/util/List"
  | 3 => .object "java/lang/String"
  | 4 => .object "java/lang/Object"
  | _ => .int
abbrev wsJ200 : List Cond := u_ws RJ20 TJ20 6
theorem nmJ20 : ∀ a, a < 6 → ∀ b, b < 6 → a ≠ b → (TJ20 a).2.1 ≠ (TJ20 b).2.1 := by decide +kernel
theorem tyJ20_ok : ∀ k, k < 6 → parseFieldDescriptor (TJ20 k).2.2.1 = some (tyJ20 k) := by decide +kernel
abbrev cJ20_init : ByteArray := prog_42_method_1_code
def yJ20_init : MethodName := ⟨RJ20, "<init>", "()V"⟩
theorem dJ20_init_0 : decode cJ20_init 0 = .ok (.aload_n 0, 1) := by decide +kernel
theorem dJ20_init_1 : decode cJ20_init 1 = .ok (.invokespecial 1, 3) := by decide +kernel
theorem dJ20_init_4 : decode cJ20_init 4 = .ok (.return_, 1) := by decide +kernel
theorem q167 : (Jvm.Cond.initialized "java/util/NoSuchElementException") ∈ lw_all := lw_g (lw_at lw_m1 33 rfl) rfl
theorem q406 : (Jvm.Cond.selects "java/util/NoSuchElementException" ({ cls := "java/lang/Object", name := "getClass", desc := "()Ljava/lang/Class;" } : Jvm.MethodName) ({ cls := "java/lang/Object", name := "getClass", desc := "()Ljava/lang/Class;" } : Jvm.MethodName)) ∈ lw_all := lw_g (lw_at lw_m2 32 rfl) rfl
theorem q728 : (Jvm.Cond.selects "java/util/NoSuchElementException" ({ cls := "java/lang/Throwable", name := "fillInStackTrace", desc := "()Ljava/lang/Throwable;" } : Jvm.MethodName) ({ cls := "java/lang/Throwable", name := "fillInStackTrace", desc := "()Ljava/lang/Throwable;" } : Jvm.MethodName)) ∈ lw_all := lw_g (lw_at lw_m3 114 rfl) rfl
theorem q1258 : (Jvm.Cond.instantiable "java/util/NoSuchElementException" (6 : Nat)) ∈ lw_all := lw_g (lw_at lw_m5 164 rfl) rfl
theorem q1259 : (Jvm.Cond.castable "java/util/NoSuchElementException" "java/util/NoSuchElementException") ∈ lw_tbl := lw_at lw_m5 165 rfl
theorem q1260 : (Jvm.Cond.selects "java/util/NoSuchElementException" ({ cls := "java/lang/Throwable", name := "fillInStackTrace", desc := "(I)Ljava/lang/Throwable;" } : Jvm.MethodName) ({ cls := "java/lang/Throwable", name := "fillInStackTrace", desc := "(I)Ljava/lang/Throwable;" } : Jvm.MethodName)) ∈ lw_all := lw_g (lw_at lw_m5 166 rfl) rfl
theorem q1261 : (Jvm.Cond.lays "java/util/NoSuchElementException" "java/lang/Throwable" "cause" "Ljava/lang/Throwable;") ∈ lw_all := lw_g (lw_at lw_m5 167 rfl) rfl
theorem q1262 : (Jvm.Cond.lays "java/util/NoSuchElementException" "java/lang/Throwable" "stackTrace" "[Ljava/lang/StackTraceElement;") ∈ lw_all := lw_g (lw_at lw_m5 168 rfl) rfl
theorem q1263 : (Jvm.Cond.lays "java/util/NoSuchElementException" "java/lang/Throwable" "suppressedExceptions" "Ljava/util/List;") ∈ lw_all := lw_g (lw_at lw_m5 169 rfl) rfl
theorem q1264 : (Jvm.Cond.lays "java/util/NoSuchElementException" "java/lang/Throwable" "detailMessage" "Ljava/lang/String;") ∈ lw_all := lw_g (lw_at lw_m5 170 rfl) rfl
theorem q1265 : (Jvm.Cond.lays "java/util/NoSuchElementException" "java/lang/Throwable" "backtrace" "Ljava/lang/Object;") ∈ lw_all := lw_g (lw_at lw_m5 171 rfl) rfl
theorem q1267 : (Jvm.Cond.instanceMethod ({ cls := "java/util/NoSuchElementException", name := "<init>", desc := "()V" } : Jvm.MethodName)) ∈ lw_all := lw_g (lw_at lw_m5 173 rfl) rfl
theorem q1268 : (Jvm.Cond.code ({ cls := "java/util/NoSuchElementException", name := "<init>", desc := "()V" } : Jvm.MethodName) prog_42_method_1_code (1 : Nat) (Option.none : Option Jvm.ClassFile.FieldType)) ∈ lw_all := lw_g (lw_at lw_m5 174 rfl) rfl
theorem q1269 : (Jvm.Cond.methodLink "java/util/NoSuchElementException" (1 : Nat) ({ cls := "java/lang/RuntimeException", name := "<init>", desc := "()V" } : Jvm.MethodName)) ∈ lw_all := lw_g (lw_at lw_m5 175 rfl) rfl
theorem q1270 : (Jvm.Cond.lays "java/util/NoSuchElementException" "java/lang/Throwable" "depth" "I") ∈ lw_all := lw_g (lw_at lw_m5 176 rfl) rfl
theorem q1271 : (Jvm.Cond.superclass "java/util/NoSuchElementException" "java/lang/RuntimeException") ∈ lw_all := lw_g (lw_at lw_m5 177 rfl) rfl
theorem q2371 : (Jvm.Cond.castable "java/util/NoSuchElementException" "java/lang/Object") ∈ lw_tbl := lw_at lw_m10 77 rfl
theorem in_J20 : ∀ w ∈ wsJ200, w ∈ lw_all := lw_in wsJ200 [1261, 1262, 1263, 1264, 1265, 1270] (by decide +kernel) (by decide +kernel)

/-! java/lang/Object -/
set_option maxRecDepth 100000
def RJ21 : String := "java/lang/Object"
abbrev cJ21_init : ByteArray := object_method_1_code
def yJ21_init : MethodName := ⟨RJ21, "<init>", "()V"⟩
theorem dJ21_init_0 : decode cJ21_init 0 = .ok (.return_, 1) := by decide +kernel
theorem q174 : (Jvm.Cond.instanceMethod ({ cls := "java/lang/Object", name := "<init>", desc := "()V" } : Jvm.MethodName)) ∈ lw_all := lw_g (lw_at lw_m1 40 rfl) rfl
theorem q175 : (Jvm.Cond.code ({ cls := "java/lang/Object", name := "<init>", desc := "()V" } : Jvm.MethodName) object_method_1_code (1 : Nat) (Option.none : Option Jvm.ClassFile.FieldType)) ∈ lw_all := lw_g (lw_at lw_m1 41 rfl) rfl
theorem q390 : (Jvm.Cond.instanceMethod ({ cls := "java/lang/Object", name := "getClass", desc := "()Ljava/lang/Class;" } : Jvm.MethodName)) ∈ lw_all := lw_g (lw_at lw_m2 16 rfl) rfl
theorem q391 : (Jvm.Cond.sameMethod "java/lang/Object" "java/lang/Object" "getClass" "()Ljava/lang/Class;") ∈ lw_all := lw_g (lw_at lw_m2 17 rfl) rfl
theorem q407 : (Jvm.Cond.native ({ cls := "java/lang/Object", name := "getClass", desc := "()Ljava/lang/Class;" } : Jvm.MethodName)) ∈ lw_all := lw_g (lw_at lw_m2 33 rfl) rfl
theorem q670 : (Jvm.Cond.declares ({ cls := "java/lang/Object", name := "getClass", desc := "()Ljava/lang/Class;" } : Jvm.MethodName)) ∈ lw_tbl := lw_at lw_m3 56 rfl
theorem q672 : (Jvm.Cond.publicMethod ({ cls := "java/lang/Object", name := "getClass", desc := "()Ljava/lang/Class;" } : Jvm.MethodName)) ∈ lw_tbl := lw_at lw_m3 58 rfl
theorem q1113 : (Jvm.Cond.native ({ cls := "java/lang/Object", name := "clone", desc := "()Ljava/lang/Object;" } : Jvm.MethodName)) ∈ lw_all := lw_g (lw_at lw_m5 19 rfl) rfl
theorem q1114 : (Jvm.Cond.instanceMethod ({ cls := "java/lang/Object", name := "clone", desc := "()Ljava/lang/Object;" } : Jvm.MethodName)) ∈ lw_all := lw_g (lw_at lw_m5 20 rfl) rfl
theorem q2355 : (Jvm.Cond.initialized "java/lang/Object") ∈ lw_all := lw_g (lw_at lw_m10 61 rfl) rfl

/-! java/lang/Throwable -/
set_option maxRecDepth 100000
def RJ3 : String := "java/lang/Throwable"
def TJ3 : u_T := fun k => match k with
  | 0 => ("java/lang/Throwable", "cause", "Ljava/lang/Throwable;", false)
  | 1 => ("java/lang/Throwable", "stackTrace", "[Ljava/lang/StackTraceElement;", false)
  | 2 => ("java/lang/Throwable", "suppressedExceptions", "Ljava/util/List;", false)
  | 3 => ("java/lang/Throwable", "detailMessage", "Ljava/lang/String;", false)
  | _ => ("java/lang/Throwable", "backtrace", "Ljava/lang/Object;", false)
def tyJ3 : Nat → FieldType := fun k => match k with
  | 0 => .object "java/lang/Throwable"
  | 1 => .array (.object "java/lang/StackTraceElement")
  | 2 => .object "java/util/List"
  | 3 => .object "java/lang/String"
  | _ => .object "java/lang/Object"
abbrev wsJ30 : List Cond := u_ws RJ3 TJ3 5
theorem nmJ3 : ∀ a, a < 5 → ∀ b, b < 5 → a ≠ b → (TJ3 a).2.1 ≠ (TJ3 b).2.1 := by decide +kernel
theorem tyJ3_ok : ∀ k, k < 5 → parseFieldDescriptor (TJ3 k).2.2.1 = some (tyJ3 k) := by decide +kernel
abbrev cJ3_init : ByteArray := prog_33_method_1_code
def yJ3_init : MethodName := ⟨RJ3, "<init>", "()V"⟩
def dkwJ3_init_1 : List UInt8 := [182, 0, 27, 87, 177]
abbrev dktJ3_init_1 : List UInt8 := dkwJ3_init_1 ++ []
def dkwJ3_init_0 : List UInt8 := [42, 183, 0, 1, 42, 42, 181, 0, 7, 42, 178, 0, 13, 181, 0, 17, 42, 178, 0, 20, 181, 0, 24, 42]
abbrev dktJ3_init_0 : List UInt8 := dkwJ3_init_0 ++ dktJ3_init_1
theorem dksJ3_init_0 : cJ3_init.data.toList.drop 0 = dktJ3_init_0 := by decide +kernel
theorem dksJ3_init_1 : cJ3_init.data.toList.drop 24 = dktJ3_init_1 := dk_seg dksJ3_init_0 24 rfl rfl
theorem dJ3_init_0 : decode cJ3_init 0 = .ok (.aload_n 0, 1) := dk_42 (dk_at dksJ3_init_0 0 rfl rfl)
theorem dJ3_init_1 : decode cJ3_init 1 = .ok (.invokespecial 1, 3) := dk_183 0 1 (dk_at dksJ3_init_0 1 rfl rfl)
theorem dJ3_init_4 : decode cJ3_init 4 = .ok (.aload_n 0, 1) := dk_42 (dk_at dksJ3_init_0 4 rfl rfl)
theorem dJ3_init_5 : decode cJ3_init 5 = .ok (.aload_n 0, 1) := dk_42 (dk_at dksJ3_init_0 5 rfl rfl)
theorem dJ3_init_6 : decode cJ3_init 6 = .ok (.putfield 7, 3) := dk_181 0 7 (dk_at dksJ3_init_0 6 rfl rfl)
theorem dJ3_init_9 : decode cJ3_init 9 = .ok (.aload_n 0, 1) := dk_42 (dk_at dksJ3_init_0 9 rfl rfl)
theorem dJ3_init_10 : decode cJ3_init 10 = .ok (.getstatic 13, 3) := dk_178 0 13 (dk_at dksJ3_init_0 10 rfl rfl)
theorem dJ3_init_13 : decode cJ3_init 13 = .ok (.putfield 17, 3) := dk_181 0 17 (dk_at dksJ3_init_0 13 rfl rfl)
theorem dJ3_init_16 : decode cJ3_init 16 = .ok (.aload_n 0, 1) := dk_42 (dk_at dksJ3_init_0 16 rfl rfl)
theorem dJ3_init_17 : decode cJ3_init 17 = .ok (.getstatic 20, 3) := dk_178 0 20 (dk_at dksJ3_init_0 17 rfl rfl)
theorem dJ3_init_20 : decode cJ3_init 20 = .ok (.putfield 24, 3) := dk_181 0 24 (dk_at dksJ3_init_0 20 rfl rfl)
theorem dJ3_init_23 : decode cJ3_init 23 = .ok (.aload_n 0, 1) := dk_42 (dk_at dksJ3_init_0 23 rfl rfl)
theorem dJ3_init_24 : decode cJ3_init 24 = .ok (.invokevirtual 27, 3) := dk_182 0 27 (dk_at dksJ3_init_1 0 rfl rfl)
theorem dJ3_init_27 : decode cJ3_init 27 = .ok (.pop, 1) := dk_87 (dk_at dksJ3_init_1 3 rfl rfl)
theorem dJ3_init_28 : decode cJ3_init 28 = .ok (.return_, 1) := dk_177 (dk_at dksJ3_init_1 4 rfl rfl)
abbrev cJ3_init_2 : ByteArray := prog_33_method_5_code
def yJ3_init_2 : MethodName := ⟨RJ3, "<init>", "(Ljava/lang/String;Ljava/lang/Throwable;ZZ)V"⟩
def dkwJ3_init_2_2 : List UInt8 := [44, 181, 0, 7, 29, 154, 0, 8, 42, 1, 181, 0, 24, 177]
abbrev dktJ3_init_2_2 : List UInt8 := dkwJ3_init_2_2 ++ []
def dkwJ3_init_2_1 : List UInt8 := [21, 4, 153, 0, 11, 42, 182, 0, 27, 87, 167, 0, 8, 42, 1, 181, 0, 17, 42, 43, 181, 0, 31, 42]
abbrev dktJ3_init_2_1 : List UInt8 := dkwJ3_init_2_1 ++ dktJ3_init_2_2
def dkwJ3_init_2_0 : List UInt8 := [42, 183, 0, 1, 42, 42, 181, 0, 7, 42, 178, 0, 13, 181, 0, 17, 42, 178, 0, 20, 181, 0, 24]
abbrev dktJ3_init_2_0 : List UInt8 := dkwJ3_init_2_0 ++ dktJ3_init_2_1
theorem dksJ3_init_2_0 : cJ3_init_2.data.toList.drop 0 = dktJ3_init_2_0 := by decide +kernel
theorem dksJ3_init_2_1 : cJ3_init_2.data.toList.drop 23 = dktJ3_init_2_1 := dk_seg dksJ3_init_2_0 23 rfl rfl
theorem dksJ3_init_2_2 : cJ3_init_2.data.toList.drop 47 = dktJ3_init_2_2 := dk_seg dksJ3_init_2_1 24 rfl rfl
theorem dJ3_init_2_0 : decode cJ3_init_2 0 = .ok (.aload_n 0, 1) := dk_42 (dk_at dksJ3_init_2_0 0 rfl rfl)
theorem dJ3_init_2_1 : decode cJ3_init_2 1 = .ok (.invokespecial 1, 3) := dk_183 0 1 (dk_at dksJ3_init_2_0 1 rfl rfl)
theorem dJ3_init_2_4 : decode cJ3_init_2 4 = .ok (.aload_n 0, 1) := dk_42 (dk_at dksJ3_init_2_0 4 rfl rfl)
theorem dJ3_init_2_5 : decode cJ3_init_2 5 = .ok (.aload_n 0, 1) := dk_42 (dk_at dksJ3_init_2_0 5 rfl rfl)
theorem dJ3_init_2_6 : decode cJ3_init_2 6 = .ok (.putfield 7, 3) := dk_181 0 7 (dk_at dksJ3_init_2_0 6 rfl rfl)
theorem dJ3_init_2_9 : decode cJ3_init_2 9 = .ok (.aload_n 0, 1) := dk_42 (dk_at dksJ3_init_2_0 9 rfl rfl)
theorem dJ3_init_2_10 : decode cJ3_init_2 10 = .ok (.getstatic 13, 3) := dk_178 0 13 (dk_at dksJ3_init_2_0 10 rfl rfl)
theorem dJ3_init_2_13 : decode cJ3_init_2 13 = .ok (.putfield 17, 3) := dk_181 0 17 (dk_at dksJ3_init_2_0 13 rfl rfl)
theorem dJ3_init_2_16 : decode cJ3_init_2 16 = .ok (.aload_n 0, 1) := dk_42 (dk_at dksJ3_init_2_0 16 rfl rfl)
theorem dJ3_init_2_17 : decode cJ3_init_2 17 = .ok (.getstatic 20, 3) := dk_178 0 20 (dk_at dksJ3_init_2_0 17 rfl rfl)
theorem dJ3_init_2_20 : decode cJ3_init_2 20 = .ok (.putfield 24, 3) := dk_181 0 24 (dk_at dksJ3_init_2_0 20 rfl rfl)
theorem dJ3_init_2_23 : decode cJ3_init_2 23 = .ok (.iload 4, 2) := dk_21 4 (dk_at dksJ3_init_2_1 0 rfl rfl)
theorem dJ3_init_2_25 : decode cJ3_init_2 25 = .ok (.ifCond .eq 11, 3) := dk_153 0 11 (dk_at dksJ3_init_2_1 2 rfl rfl)
theorem dJ3_init_2_28 : decode cJ3_init_2 28 = .ok (.aload_n 0, 1) := dk_42 (dk_at dksJ3_init_2_1 5 rfl rfl)
theorem dJ3_init_2_29 : decode cJ3_init_2 29 = .ok (.invokevirtual 27, 3) := dk_182 0 27 (dk_at dksJ3_init_2_1 6 rfl rfl)
theorem dJ3_init_2_32 : decode cJ3_init_2 32 = .ok (.pop, 1) := dk_87 (dk_at dksJ3_init_2_1 9 rfl rfl)
theorem dJ3_init_2_33 : decode cJ3_init_2 33 = .ok (.goto 8, 3) := dk_167 0 8 (dk_at dksJ3_init_2_1 10 rfl rfl)
theorem dJ3_init_2_36 : decode cJ3_init_2 36 = .ok (.aload_n 0, 1) := dk_42 (dk_at dksJ3_init_2_1 13 rfl rfl)
theorem dJ3_init_2_37 : decode cJ3_init_2 37 = .ok (.aconst_null, 1) := dk_1 (dk_at dksJ3_init_2_1 14 rfl rfl)
theorem dJ3_init_2_38 : decode cJ3_init_2 38 = .ok (.putfield 17, 3) := dk_181 0 17 (dk_at dksJ3_init_2_1 15 rfl rfl)
theorem dJ3_init_2_41 : decode cJ3_init_2 41 = .ok (.aload_n 0, 1) := dk_42 (dk_at dksJ3_init_2_1 18 rfl rfl)
theorem dJ3_init_2_42 : decode cJ3_init_2 42 = .ok (.aload_n 1, 1) := dk_43 (dk_at dksJ3_init_2_1 19 rfl rfl)
theorem dJ3_init_2_43 : decode cJ3_init_2 43 = .ok (.putfield 31, 3) := dk_181 0 31 (dk_at dksJ3_init_2_1 20 rfl rfl)
theorem dJ3_init_2_46 : decode cJ3_init_2 46 = .ok (.aload_n 0, 1) := dk_42 (dk_at dksJ3_init_2_1 23 rfl rfl)
theorem dJ3_init_2_47 : decode cJ3_init_2 47 = .ok (.aload_n 2, 1) := dk_44 (dk_at dksJ3_init_2_2 0 rfl rfl)
theorem dJ3_init_2_48 : decode cJ3_init_2 48 = .ok (.putfield 7, 3) := dk_181 0 7 (dk_at dksJ3_init_2_2 1 rfl rfl)
theorem dJ3_init_2_51 : decode cJ3_init_2 51 = .ok (.iload_n 3, 1) := dk_29 (dk_at dksJ3_init_2_2 4 rfl rfl)
theorem dJ3_init_2_52 : decode cJ3_init_2 52 = .ok (.ifCond .ne 8, 3) := dk_154 0 8 (dk_at dksJ3_init_2_2 5 rfl rfl)
theorem dJ3_init_2_55 : decode cJ3_init_2 55 = .ok (.aload_n 0, 1) := dk_42 (dk_at dksJ3_init_2_2 8 rfl rfl)
theorem dJ3_init_2_56 : decode cJ3_init_2 56 = .ok (.aconst_null, 1) := dk_1 (dk_at dksJ3_init_2_2 9 rfl rfl)
theorem dJ3_init_2_57 : decode cJ3_init_2 57 = .ok (.putfield 24, 3) := dk_181 0 24 (dk_at dksJ3_init_2_2 10 rfl rfl)
theorem dJ3_init_2_60 : decode cJ3_init_2 60 = .ok (.return_, 1) := dk_177 (dk_at dksJ3_init_2_2 13 rfl rfl)
theorem q142 : (Jvm.Cond.initialized "java/lang/Throwable") ∈ lw_all := lw_g (lw_at lw_m1 8 rfl) rfl
theorem q701 : (Jvm.Cond.declares ({ cls := "java/lang/Throwable", name := "<init>", desc := "()V" } : Jvm.MethodName)) ∈ lw_tbl := lw_at lw_m3 87 rfl
theorem q702 : (Jvm.Cond.declares ({ cls := "java/lang/Throwable", name := "<init>", desc := "(Ljava/lang/String;)V" } : Jvm.MethodName)) ∈ lw_tbl := lw_at lw_m3 88 rfl
theorem q706 : (Jvm.Cond.lays "java/lang/Throwable" "java/lang/Throwable" "cause" "Ljava/lang/Throwable;") ∈ lw_all := lw_g (lw_at lw_m3 92 rfl) rfl
theorem q708 : (Jvm.Cond.lays "java/lang/Throwable" "java/lang/Throwable" "stackTrace" "[Ljava/lang/StackTraceElement;") ∈ lw_all := lw_g (lw_at lw_m3 94 rfl) rfl
theorem q710 : (Jvm.Cond.lays "java/lang/Throwable" "java/lang/Throwable" "suppressedExceptions" "Ljava/util/List;") ∈ lw_all := lw_g (lw_at lw_m3 96 rfl) rfl
theorem q712 : (Jvm.Cond.lays "java/lang/Throwable" "java/lang/Throwable" "detailMessage" "Ljava/lang/String;") ∈ lw_all := lw_g (lw_at lw_m3 98 rfl) rfl
theorem q714 : (Jvm.Cond.lays "java/lang/Throwable" "java/lang/Throwable" "backtrace" "Ljava/lang/Object;") ∈ lw_all := lw_g (lw_at lw_m3 100 rfl) rfl
theorem q715 : (Jvm.Cond.fieldLink "java/lang/Throwable" (198 : Nat) "java/lang/Throwable" "backtrace" "Ljava/lang/Object;") ∈ lw_all := lw_g (lw_at lw_m3 101 rfl) rfl
theorem q716 : (Jvm.Cond.superclass "java/lang/Throwable" "java/lang/Object") ∈ lw_all := lw_g (lw_at lw_m3 102 rfl) rfl
theorem q717 : (Jvm.Cond.instanceMethod ({ cls := "java/lang/Throwable", name := "<init>", desc := "()V" } : Jvm.MethodName)) ∈ lw_all := lw_g (lw_at lw_m3 103 rfl) rfl
theorem q718 : (Jvm.Cond.code ({ cls := "java/lang/Throwable", name := "<init>", desc := "()V" } : Jvm.MethodName) prog_33_method_1_code (1 : Nat) (Option.none : Option Jvm.ClassFile.FieldType)) ∈ lw_all := lw_g (lw_at lw_m3 104 rfl) rfl
theorem q719 : (Jvm.Cond.methodLink "java/lang/Throwable" (1 : Nat) ({ cls := "java/lang/Object", name := "<init>", desc := "()V" } : Jvm.MethodName)) ∈ lw_all := lw_g (lw_at lw_m3 105 rfl) rfl
theorem q720 : (Jvm.Cond.fieldLink "java/lang/Throwable" (13 : Nat) "java/lang/Throwable" "UNASSIGNED_STACK" "[Ljava/lang/StackTraceElement;") ∈ lw_all := lw_g (lw_at lw_m3 106 rfl) rfl
theorem q721 : (Jvm.Cond.laysStatic "java/lang/Throwable" "UNASSIGNED_STACK" "[Ljava/lang/StackTraceElement;") ∈ lw_tbl := lw_at lw_m3 107 rfl
theorem q722 : (Jvm.Cond.fieldLink "java/lang/Throwable" (20 : Nat) "java/lang/Throwable" "SUPPRESSED_SENTINEL" "Ljava/util/List;") ∈ lw_all := lw_g (lw_at lw_m3 108 rfl) rfl
theorem q723 : (Jvm.Cond.laysStatic "java/lang/Throwable" "SUPPRESSED_SENTINEL" "Ljava/util/List;") ∈ lw_tbl := lw_at lw_m3 109 rfl
theorem q724 : (Jvm.Cond.methodLink "java/lang/Throwable" (27 : Nat) ({ cls := "java/lang/Throwable", name := "fillInStackTrace", desc := "()Ljava/lang/Throwable;" } : Jvm.MethodName)) ∈ lw_all := lw_g (lw_at lw_m3 110 rfl) rfl
theorem q725 : (Jvm.Cond.instanceMethod ({ cls := "java/lang/Throwable", name := "fillInStackTrace", desc := "()Ljava/lang/Throwable;" } : Jvm.MethodName)) ∈ lw_all := lw_g (lw_at lw_m3 111 rfl) rfl
theorem q726 : (Jvm.Cond.sameMethod "java/lang/Throwable" "java/lang/Throwable" "fillInStackTrace" "()Ljava/lang/Throwable;") ∈ lw_all := lw_g (lw_at lw_m3 112 rfl) rfl
theorem q729 : (Jvm.Cond.codeSync ({ cls := "java/lang/Throwable", name := "fillInStackTrace", desc := "()Ljava/lang/Throwable;" } : Jvm.MethodName) prog_33_method_18_code (1 : Nat) (Option.some (Jvm.ClassFile.FieldType.object "java/lang/Throwable"))) ∈ lw_all := lw_g (lw_at lw_m3 115 rfl) rfl
theorem q730 : (Jvm.Cond.methodLink "java/lang/Throwable" (202 : Nat) ({ cls := "java/lang/Throwable", name := "fillInStackTrace", desc := "(I)Ljava/lang/Throwable;" } : Jvm.MethodName)) ∈ lw_all := lw_g (lw_at lw_m3 116 rfl) rfl
theorem q731 : (Jvm.Cond.privateMethod ({ cls := "java/lang/Throwable", name := "fillInStackTrace", desc := "(I)Ljava/lang/Throwable;" } : Jvm.MethodName)) ∈ lw_tbl := lw_at lw_m3 117 rfl
theorem q732 : (Jvm.Cond.instanceMethod ({ cls := "java/lang/Throwable", name := "fillInStackTrace", desc := "(I)Ljava/lang/Throwable;" } : Jvm.MethodName)) ∈ lw_all := lw_g (lw_at lw_m3 118 rfl) rfl
theorem q733 : (Jvm.Cond.instantiable "java/lang/Throwable" (6 : Nat)) ∈ lw_all := lw_g (lw_at lw_m3 119 rfl) rfl
theorem q734 : (Jvm.Cond.native ({ cls := "java/lang/Throwable", name := "fillInStackTrace", desc := "(I)Ljava/lang/Throwable;" } : Jvm.MethodName)) ∈ lw_all := lw_g (lw_at lw_m3 120 rfl) rfl
theorem q745 : (Jvm.Cond.fieldLink "java/lang/Throwable" (198 : Nat) "java/lang/Throwable" "backtrace" "Ljava/lang/Object;") ∈ lw_all := lw_g (lw_at lw_m3 131 rfl) rfl
theorem q746 : (Jvm.Cond.fieldLink "java/lang/Throwable" (31 : Nat) "java/lang/Throwable" "detailMessage" "Ljava/lang/String;") ∈ lw_all := lw_g (lw_at lw_m3 132 rfl) rfl
theorem q747 : (Jvm.Cond.fieldLink "java/lang/Throwable" (7 : Nat) "java/lang/Throwable" "cause" "Ljava/lang/Throwable;") ∈ lw_all := lw_g (lw_at lw_m3 133 rfl) rfl
theorem q748 : (Jvm.Cond.fieldLink "java/lang/Throwable" (17 : Nat) "java/lang/Throwable" "stackTrace" "[Ljava/lang/StackTraceElement;") ∈ lw_all := lw_g (lw_at lw_m3 134 rfl) rfl
theorem q749 : (Jvm.Cond.fieldLink "java/lang/Throwable" (24 : Nat) "java/lang/Throwable" "suppressedExceptions" "Ljava/util/List;") ∈ lw_all := lw_g (lw_at lw_m3 135 rfl) rfl
theorem q750 : (Jvm.Cond.soleField "java/lang/Throwable" "backtrace") ∈ lw_all := lw_g (lw_at lw_m3 136 rfl) rfl
theorem q751 : (Jvm.Cond.soleField "java/lang/Throwable" "detailMessage") ∈ lw_all := lw_g (lw_at lw_m3 137 rfl) rfl
theorem q752 : (Jvm.Cond.soleField "java/lang/Throwable" "cause") ∈ lw_all := lw_g (lw_at lw_m3 138 rfl) rfl
theorem q753 : (Jvm.Cond.soleField "java/lang/Throwable" "stackTrace") ∈ lw_all := lw_g (lw_at lw_m3 139 rfl) rfl
theorem q755 : (Jvm.Cond.soleField "java/lang/Throwable" "depth") ∈ lw_all := lw_g (lw_at lw_m3 141 rfl) rfl
theorem q756 : (Jvm.Cond.soleField "java/lang/Throwable" "suppressedExceptions") ∈ lw_all := lw_g (lw_at lw_m3 142 rfl) rfl
theorem q973 : (Jvm.Cond.instanceMethod ({ cls := "java/lang/Throwable", name := "<init>", desc := "(Ljava/lang/String;Ljava/lang/Throwable;ZZ)V" } : Jvm.MethodName)) ∈ lw_all := lw_g (lw_at lw_m4 119 rfl) rfl
theorem q974 : (Jvm.Cond.code ({ cls := "java/lang/Throwable", name := "<init>", desc := "(Ljava/lang/String;Ljava/lang/Throwable;ZZ)V" } : Jvm.MethodName) prog_33_method_5_code (5 : Nat) (Option.none : Option Jvm.ClassFile.FieldType)) ∈ lw_all := lw_g (lw_at lw_m4 120 rfl) rfl
theorem q2350 : (Jvm.Cond.sameMethod "java/lang/Throwable" "java/lang/Throwable" "fillInStackTrace" "(I)Ljava/lang/Throwable;") ∈ lw_all := lw_g (lw_at lw_m10 56 rfl) rfl
theorem q2372 : (Jvm.Cond.castable "java/lang/Throwable" "java/lang/Object") ∈ lw_tbl := lw_at lw_m10 78 rfl
theorem in_J3 : ∀ w ∈ wsJ30, w ∈ lw_all := lw_in wsJ30 [706, 708, 710, 712, 714] (by decide +kernel) (by decide +kernel)

/-! java/lang/Exception -/
set_option maxRecDepth 100000
def RJ4 : String := "java/lang/Exception"
abbrev cJ4_init : ByteArray := prog_20_method_1_code
def yJ4_init : MethodName := ⟨RJ4, "<init>", "()V"⟩
theorem dJ4_init_0 : decode cJ4_init 0 = .ok (.aload_n 0, 1) := by decide +kernel
theorem dJ4_init_1 : decode cJ4_init 1 = .ok (.invokespecial 1, 3) := by decide +kernel
theorem dJ4_init_4 : decode cJ4_init 4 = .ok (.return_, 1) := by decide +kernel
abbrev cJ4_init_2 : ByteArray := prog_20_method_5_code
def yJ4_init_2 : MethodName := ⟨RJ4, "<init>", "(Ljava/lang/String;Ljava/lang/Throwable;ZZ)V"⟩
def dkwJ4_init_2_0 : List UInt8 := [42, 43, 44, 29, 21, 4, 183, 0, 16, 177]
abbrev dktJ4_init_2_0 : List UInt8 := dkwJ4_init_2_0 ++ []
theorem dksJ4_init_2_0 : cJ4_init_2.data.toList.drop 0 = dktJ4_init_2_0 := by decide +kernel
theorem dJ4_init_2_0 : decode cJ4_init_2 0 = .ok (.aload_n 0, 1) := dk_42 (dk_at dksJ4_init_2_0 0 rfl rfl)
theorem dJ4_init_2_1 : decode cJ4_init_2 1 = .ok (.aload_n 1, 1) := dk_43 (dk_at dksJ4_init_2_0 1 rfl rfl)
theorem dJ4_init_2_2 : decode cJ4_init_2 2 = .ok (.aload_n 2, 1) := dk_44 (dk_at dksJ4_init_2_0 2 rfl rfl)
theorem dJ4_init_2_3 : decode cJ4_init_2 3 = .ok (.iload_n 3, 1) := dk_29 (dk_at dksJ4_init_2_0 3 rfl rfl)
theorem dJ4_init_2_4 : decode cJ4_init_2 4 = .ok (.iload 4, 2) := dk_21 4 (dk_at dksJ4_init_2_0 4 rfl rfl)
theorem dJ4_init_2_6 : decode cJ4_init_2 6 = .ok (.invokespecial 16, 3) := dk_183 0 16 (dk_at dksJ4_init_2_0 6 rfl rfl)
theorem dJ4_init_2_9 : decode cJ4_init_2 9 = .ok (.return_, 1) := dk_177 (dk_at dksJ4_init_2_0 9 rfl rfl)
theorem q143 : (Jvm.Cond.initialized "java/lang/Exception") ∈ lw_all := lw_g (lw_at lw_m1 9 rfl) rfl
theorem q699 : (Jvm.Cond.declares ({ cls := "java/lang/Exception", name := "<init>", desc := "()V" } : Jvm.MethodName)) ∈ lw_tbl := lw_at lw_m3 85 rfl
theorem q700 : (Jvm.Cond.declares ({ cls := "java/lang/Exception", name := "<init>", desc := "(Ljava/lang/String;)V" } : Jvm.MethodName)) ∈ lw_tbl := lw_at lw_m3 86 rfl
theorem q742 : (Jvm.Cond.instanceMethod ({ cls := "java/lang/Exception", name := "<init>", desc := "()V" } : Jvm.MethodName)) ∈ lw_all := lw_g (lw_at lw_m3 128 rfl) rfl
theorem q743 : (Jvm.Cond.code ({ cls := "java/lang/Exception", name := "<init>", desc := "()V" } : Jvm.MethodName) prog_20_method_1_code (1 : Nat) (Option.none : Option Jvm.ClassFile.FieldType)) ∈ lw_all := lw_g (lw_at lw_m3 129 rfl) rfl
theorem q744 : (Jvm.Cond.methodLink "java/lang/Exception" (1 : Nat) ({ cls := "java/lang/Throwable", name := "<init>", desc := "()V" } : Jvm.MethodName)) ∈ lw_all := lw_g (lw_at lw_m3 130 rfl) rfl
theorem q970 : (Jvm.Cond.instanceMethod ({ cls := "java/lang/Exception", name := "<init>", desc := "(Ljava/lang/String;Ljava/lang/Throwable;ZZ)V" } : Jvm.MethodName)) ∈ lw_all := lw_g (lw_at lw_m4 116 rfl) rfl
theorem q971 : (Jvm.Cond.code ({ cls := "java/lang/Exception", name := "<init>", desc := "(Ljava/lang/String;Ljava/lang/Throwable;ZZ)V" } : Jvm.MethodName) prog_20_method_5_code (5 : Nat) (Option.none : Option Jvm.ClassFile.FieldType)) ∈ lw_all := lw_g (lw_at lw_m4 117 rfl) rfl
theorem q972 : (Jvm.Cond.methodLink "java/lang/Exception" (16 : Nat) ({ cls := "java/lang/Throwable", name := "<init>", desc := "(Ljava/lang/String;Ljava/lang/Throwable;ZZ)V" } : Jvm.MethodName)) ∈ lw_all := lw_g (lw_at lw_m4 118 rfl) rfl

/-! java/lang/RuntimeException -/
set_option maxRecDepth 100000
def RJ5 : String := "java/lang/RuntimeException"
abbrev cJ5_init : ByteArray := prog_27_method_1_code
def yJ5_init : MethodName := ⟨RJ5, "<init>", "()V"⟩
theorem dJ5_init_0 : decode cJ5_init 0 = .ok (.aload_n 0, 1) := by decide +kernel
theorem dJ5_init_1 : decode cJ5_init 1 = .ok (.invokespecial 1, 3) := by decide +kernel
theorem dJ5_init_4 : decode cJ5_init 4 = .ok (.return_, 1) := by decide +kernel
theorem q144 : (Jvm.Cond.initialized "java/lang/RuntimeException") ∈ lw_all := lw_g (lw_at lw_m1 10 rfl) rfl
theorem q697 : (Jvm.Cond.declares ({ cls := "java/lang/RuntimeException", name := "<init>", desc := "()V" } : Jvm.MethodName)) ∈ lw_tbl := lw_at lw_m3 83 rfl
theorem q698 : (Jvm.Cond.declares ({ cls := "java/lang/RuntimeException", name := "<init>", desc := "(Ljava/lang/String;)V" } : Jvm.MethodName)) ∈ lw_tbl := lw_at lw_m3 84 rfl
theorem q739 : (Jvm.Cond.instanceMethod ({ cls := "java/lang/RuntimeException", name := "<init>", desc := "()V" } : Jvm.MethodName)) ∈ lw_all := lw_g (lw_at lw_m3 125 rfl) rfl
theorem q740 : (Jvm.Cond.code ({ cls := "java/lang/RuntimeException", name := "<init>", desc := "()V" } : Jvm.MethodName) prog_27_method_1_code (1 : Nat) (Option.none : Option Jvm.ClassFile.FieldType)) ∈ lw_all := lw_g (lw_at lw_m3 126 rfl) rfl
theorem q741 : (Jvm.Cond.methodLink "java/lang/RuntimeException" (1 : Nat) ({ cls := "java/lang/Exception", name := "<init>", desc := "()V" } : Jvm.MethodName)) ∈ lw_all := lw_g (lw_at lw_m3 127 rfl) rfl

/-! java/lang/IllegalArgumentException -/
set_option maxRecDepth 100000
def RJ6 : String := "java/lang/IllegalArgumentException"
def TJ6 : u_T := fun k => match k with
  | 0 => ("java/lang/Throwable", "cause", "Ljava/lang/Throwable;", false)
  | 1 => ("java/lang/Throwable", "stackTrace", "[Ljava/lang/StackTraceElement;", false)
  | 2 => ("java/lang/Throwable", "suppressedExceptions", "Ljava/util/List;", false)
  | 3 => ("java/lang/Throwable", "detailMessage", "Ljava/lang/String;", false)
  | 4 => ("java/lang/Throwable", "backtrace", "Ljava/lang/Object;", false)
  | _ => ("java/lang/Throwable", "depth", "I", false)
def tyJ6 : Nat → FieldType := fun k => match k with
  | 0 => .object "java/lang/Throwable"
  | 1 => .array (.object "java/lang/StackTraceElement")
  | 2 => .object "java/util/List"
  | 3 => .object "java/lang/String"
  | 4 => .object "java/lang/Object"
  | _ => .int
abbrev wsJ60 : List Cond := u_ws RJ6 TJ6 6
theorem nmJ6 : ∀ a, a < 6 → ∀ b, b < 6 → a ≠ b → (TJ6 a).2.1 ≠ (TJ6 b).2.1 := by decide +kernel
theorem tyJ6_ok : ∀ k, k < 6 → parseFieldDescriptor (TJ6 k).2.2.1 = some (tyJ6 k) := by decide +kernel
abbrev cJ6_init : ByteArray := prog_21_method_1_code
def yJ6_init : MethodName := ⟨RJ6, "<init>", "()V"⟩
theorem dJ6_init_0 : decode cJ6_init 0 = .ok (.aload_n 0, 1) := by decide +kernel
theorem dJ6_init_1 : decode cJ6_init 1 = .ok (.invokespecial 1, 3) := by decide +kernel
theorem dJ6_init_4 : decode cJ6_init 4 = .ok (.return_, 1) := by decide +kernel
theorem q145 : (Jvm.Cond.initialized "java/lang/IllegalArgumentException") ∈ lw_all := lw_g (lw_at lw_m1 11 rfl) rfl
theorem q402 : (Jvm.Cond.selects "java/lang/IllegalArgumentException" ({ cls := "java/lang/Object", name := "getClass", desc := "()Ljava/lang/Class;" } : Jvm.MethodName) ({ cls := "java/lang/Object", name := "getClass", desc := "()Ljava/lang/Class;" } : Jvm.MethodName)) ∈ lw_all := lw_g (lw_at lw_m2 28 rfl) rfl
theorem q695 : (Jvm.Cond.instantiable "java/lang/IllegalArgumentException" (6 : Nat)) ∈ lw_all := lw_g (lw_at lw_m3 81 rfl) rfl
theorem q696 : (Jvm.Cond.castable "java/lang/IllegalArgumentException" "java/lang/IllegalArgumentException") ∈ lw_tbl := lw_at lw_m3 82 rfl
theorem q703 : (Jvm.Cond.selects "java/lang/IllegalArgumentException" ({ cls := "java/lang/Throwable", name := "fillInStackTrace", desc := "(I)Ljava/lang/Throwable;" } : Jvm.MethodName) ({ cls := "java/lang/Throwable", name := "fillInStackTrace", desc := "(I)Ljava/lang/Throwable;" } : Jvm.MethodName)) ∈ lw_all := lw_g (lw_at lw_m3 89 rfl) rfl
theorem q704 : (Jvm.Cond.selects "java/lang/IllegalArgumentException" ({ cls := "java/lang/Throwable", name := "fillInStackTrace", desc := "()Ljava/lang/Throwable;" } : Jvm.MethodName) ({ cls := "java/lang/Throwable", name := "fillInStackTrace", desc := "()Ljava/lang/Throwable;" } : Jvm.MethodName)) ∈ lw_all := lw_g (lw_at lw_m3 90 rfl) rfl
theorem q705 : (Jvm.Cond.lays "java/lang/IllegalArgumentException" "java/lang/Throwable" "cause" "Ljava/lang/Throwable;") ∈ lw_all := lw_g (lw_at lw_m3 91 rfl) rfl
theorem q707 : (Jvm.Cond.lays "java/lang/IllegalArgumentException" "java/lang/Throwable" "stackTrace" "[Ljava/lang/StackTraceElement;") ∈ lw_all := lw_g (lw_at lw_m3 93 rfl) rfl
theorem q709 : (Jvm.Cond.lays "java/lang/IllegalArgumentException" "java/lang/Throwable" "suppressedExceptions" "Ljava/util/List;") ∈ lw_all := lw_g (lw_at lw_m3 95 rfl) rfl
theorem q711 : (Jvm.Cond.lays "java/lang/IllegalArgumentException" "java/lang/Throwable" "detailMessage" "Ljava/lang/String;") ∈ lw_all := lw_g (lw_at lw_m3 97 rfl) rfl
theorem q713 : (Jvm.Cond.lays "java/lang/IllegalArgumentException" "java/lang/Throwable" "backtrace" "Ljava/lang/Object;") ∈ lw_all := lw_g (lw_at lw_m3 99 rfl) rfl
theorem q736 : (Jvm.Cond.instanceMethod ({ cls := "java/lang/IllegalArgumentException", name := "<init>", desc := "()V" } : Jvm.MethodName)) ∈ lw_all := lw_g (lw_at lw_m3 122 rfl) rfl
theorem q737 : (Jvm.Cond.code ({ cls := "java/lang/IllegalArgumentException", name := "<init>", desc := "()V" } : Jvm.MethodName) prog_21_method_1_code (1 : Nat) (Option.none : Option Jvm.ClassFile.FieldType)) ∈ lw_all := lw_g (lw_at lw_m3 123 rfl) rfl
theorem q738 : (Jvm.Cond.methodLink "java/lang/IllegalArgumentException" (1 : Nat) ({ cls := "java/lang/RuntimeException", name := "<init>", desc := "()V" } : Jvm.MethodName)) ∈ lw_all := lw_g (lw_at lw_m3 124 rfl) rfl
theorem q754 : (Jvm.Cond.lays "java/lang/IllegalArgumentException" "java/lang/Throwable" "depth" "I") ∈ lw_all := lw_g (lw_at lw_m3 140 rfl) rfl
theorem q757 : (Jvm.Cond.superclass "java/lang/IllegalArgumentException" "java/lang/RuntimeException") ∈ lw_all := lw_g (lw_at lw_m3 143 rfl) rfl
theorem q2362 : (Jvm.Cond.castable "java/lang/IllegalArgumentException" "java/lang/Object") ∈ lw_tbl := lw_at lw_m10 68 rfl
theorem in_J6 : ∀ w ∈ wsJ60, w ∈ lw_all := lw_in wsJ60 [705, 707, 709, 711, 713, 754] (by decide +kernel) (by decide +kernel)

/-! java/lang/Math -/
set_option maxRecDepth 100000
def RJ7 : String := "java/lang/Math"
abbrev cJ7_max : ByteArray := prog_25_method_65_code
def yJ7_max : MethodName := ⟨RJ7, "max", "(II)I"⟩
def dkwJ7_max_0 : List UInt8 := [26, 27, 161, 0, 7, 26, 167, 0, 4, 27, 172]
abbrev dktJ7_max_0 : List UInt8 := dkwJ7_max_0 ++ []
theorem dksJ7_max_0 : cJ7_max.data.toList.drop 0 = dktJ7_max_0 := by decide +kernel
theorem dJ7_max_0 : decode cJ7_max 0 = .ok (.iload_n 0, 1) := dk_26 (dk_at dksJ7_max_0 0 rfl rfl)
theorem dJ7_max_1 : decode cJ7_max 1 = .ok (.iload_n 1, 1) := dk_27 (dk_at dksJ7_max_0 1 rfl rfl)
theorem dJ7_max_2 : decode cJ7_max 2 = .ok (.if_icmp .lt 7, 3) := dk_161 0 7 (dk_at dksJ7_max_0 2 rfl rfl)
theorem dJ7_max_5 : decode cJ7_max 5 = .ok (.iload_n 0, 1) := dk_26 (dk_at dksJ7_max_0 5 rfl rfl)
theorem dJ7_max_6 : decode cJ7_max 6 = .ok (.goto 4, 3) := dk_167 0 4 (dk_at dksJ7_max_0 6 rfl rfl)
theorem dJ7_max_9 : decode cJ7_max 9 = .ok (.iload_n 1, 1) := dk_27 (dk_at dksJ7_max_0 9 rfl rfl)
theorem dJ7_max_10 : decode cJ7_max 10 = .ok (.ireturn, 1) := dk_172 (dk_at dksJ7_max_0 10 rfl rfl)
abbrev cJ7_min : ByteArray := prog_25_method_69_code
def yJ7_min : MethodName := ⟨RJ7, "min", "(II)I"⟩
def dkwJ7_min_0 : List UInt8 := [26, 27, 163, 0, 7, 26, 167, 0, 4, 27, 172]
abbrev dktJ7_min_0 : List UInt8 := dkwJ7_min_0 ++ []
theorem dksJ7_min_0 : cJ7_min.data.toList.drop 0 = dktJ7_min_0 := by decide +kernel
theorem dJ7_min_0 : decode cJ7_min 0 = .ok (.iload_n 0, 1) := dk_26 (dk_at dksJ7_min_0 0 rfl rfl)
theorem dJ7_min_1 : decode cJ7_min 1 = .ok (.iload_n 1, 1) := dk_27 (dk_at dksJ7_min_0 1 rfl rfl)
theorem dJ7_min_2 : decode cJ7_min 2 = .ok (.if_icmp .gt 7, 3) := dk_163 0 7 (dk_at dksJ7_min_0 2 rfl rfl)
theorem dJ7_min_5 : decode cJ7_min 5 = .ok (.iload_n 0, 1) := dk_26 (dk_at dksJ7_min_0 5 rfl rfl)
theorem dJ7_min_6 : decode cJ7_min 6 = .ok (.goto 4, 3) := dk_167 0 4 (dk_at dksJ7_min_0 6 rfl rfl)
theorem dJ7_min_9 : decode cJ7_min 9 = .ok (.iload_n 1, 1) := dk_27 (dk_at dksJ7_min_0 9 rfl rfl)
theorem dJ7_min_10 : decode cJ7_min 10 = .ok (.ireturn, 1) := dk_172 (dk_at dksJ7_min_0 10 rfl rfl)
theorem q147 : (Jvm.Cond.initialized "java/lang/Math") ∈ lw_all := lw_g (lw_at lw_m1 13 rfl) rfl
theorem q380 : (Jvm.Cond.static ({ cls := "java/lang/Math", name := "max", desc := "(II)I" } : Jvm.MethodName)) ∈ lw_all := lw_g (lw_at lw_m2 6 rfl) rfl
theorem q381 : (Jvm.Cond.code ({ cls := "java/lang/Math", name := "max", desc := "(II)I" } : Jvm.MethodName) prog_25_method_65_code (2 : Nat) (Option.some Jvm.ClassFile.FieldType.int)) ∈ lw_all := lw_g (lw_at lw_m2 7 rfl) rfl
theorem q415 : (Jvm.Cond.static ({ cls := "java/lang/Math", name := "min", desc := "(II)I" } : Jvm.MethodName)) ∈ lw_all := lw_g (lw_at lw_m2 41 rfl) rfl
theorem q416 : (Jvm.Cond.code ({ cls := "java/lang/Math", name := "min", desc := "(II)I" } : Jvm.MethodName) prog_25_method_69_code (2 : Nat) (Option.some Jvm.ClassFile.FieldType.int)) ∈ lw_all := lw_g (lw_at lw_m2 42 rfl) rfl

/-! java/lang/String -/
set_option maxRecDepth 100000
def RJ8 : String := "java/lang/String"
abbrev cJ8_checkIndex : ByteArray := prog_28_method_155_code
def yJ8_checkIndex : MethodName := ⟨RJ8, "checkIndex", "(II)V"⟩
def dkwJ8_checkIndex_0 : List UInt8 := [26, 27, 178, 4, 29, 184, 4, 35, 87, 177]
abbrev dktJ8_checkIndex_0 : List UInt8 := dkwJ8_checkIndex_0 ++ []
theorem dksJ8_checkIndex_0 : cJ8_checkIndex.data.toList.drop 0 = dktJ8_checkIndex_0 := by decide +kernel
theorem dJ8_checkIndex_0 : decode cJ8_checkIndex 0 = .ok (.iload_n 0, 1) := dk_26 (dk_at dksJ8_checkIndex_0 0 rfl rfl)
theorem dJ8_checkIndex_1 : decode cJ8_checkIndex 1 = .ok (.iload_n 1, 1) := dk_27 (dk_at dksJ8_checkIndex_0 1 rfl rfl)
theorem dJ8_checkIndex_2 : decode cJ8_checkIndex 2 = .ok (.getstatic 1053, 3) := dk_178 4 29 (dk_at dksJ8_checkIndex_0 2 rfl rfl)
theorem dJ8_checkIndex_5 : decode cJ8_checkIndex 5 = .ok (.invokestatic 1059, 3) := dk_184 4 35 (dk_at dksJ8_checkIndex_0 5 rfl rfl)
theorem dJ8_checkIndex_8 : decode cJ8_checkIndex 8 = .ok (.pop, 1) := dk_87 (dk_at dksJ8_checkIndex_0 8 rfl rfl)
theorem dJ8_checkIndex_9 : decode cJ8_checkIndex 9 = .ok (.return_, 1) := dk_177 (dk_at dksJ8_checkIndex_0 9 rfl rfl)
abbrev cJ8_indexOf : ByteArray := prog_28_method_79_code
def yJ8_indexOf : MethodName := ⟨RJ8, "indexOf", "(I)I"⟩
def dkwJ8_indexOf_0 : List UInt8 := [42, 27, 3, 182, 2, 121, 172]
abbrev dktJ8_indexOf_0 : List UInt8 := dkwJ8_indexOf_0 ++ []
theorem dksJ8_indexOf_0 : cJ8_indexOf.data.toList.drop 0 = dktJ8_indexOf_0 := by decide +kernel
theorem dJ8_indexOf_0 : decode cJ8_indexOf 0 = .ok (.aload_n 0, 1) := dk_42 (dk_at dksJ8_indexOf_0 0 rfl rfl)
theorem dJ8_indexOf_1 : decode cJ8_indexOf 1 = .ok (.iload_n 1, 1) := dk_27 (dk_at dksJ8_indexOf_0 1 rfl rfl)
theorem dJ8_indexOf_2 : decode cJ8_indexOf 2 = .ok (.iconst 0, 1) := dk_3 (dk_at dksJ8_indexOf_0 2 rfl rfl)
theorem dJ8_indexOf_3 : decode cJ8_indexOf 3 = .ok (.invokevirtual 633, 3) := dk_182 2 121 (dk_at dksJ8_indexOf_0 3 rfl rfl)
theorem dJ8_indexOf_6 : decode cJ8_indexOf 6 = .ok (.ireturn, 1) := dk_172 (dk_at dksJ8_indexOf_0 6 rfl rfl)
abbrev cJ8_indexOf_2 : ByteArray := prog_28_method_80_code
def yJ8_indexOf_2 : MethodName := ⟨RJ8, "indexOf", "(II)I"⟩
def dkwJ8_indexOf_2_1 : List UInt8 := [180, 0, 9, 27, 28, 42, 182, 1, 249, 184, 2, 128, 172]
abbrev dktJ8_indexOf_2_1 : List UInt8 := dkwJ8_indexOf_2_1 ++ []
def dkwJ8_indexOf_2_0 : List UInt8 := [42, 182, 1, 236, 153, 0, 19, 42, 180, 0, 9, 27, 28, 42, 182, 1, 249, 184, 2, 125, 167, 0, 16, 42]
abbrev dktJ8_indexOf_2_0 : List UInt8 := dkwJ8_indexOf_2_0 ++ dktJ8_indexOf_2_1
theorem dksJ8_indexOf_2_0 : cJ8_indexOf_2.data.toList.drop 0 = dktJ8_indexOf_2_0 := by decide +kernel
theorem dksJ8_indexOf_2_1 : cJ8_indexOf_2.data.toList.drop 24 = dktJ8_indexOf_2_1 := dk_seg dksJ8_indexOf_2_0 24 rfl rfl
theorem dJ8_indexOf_2_0 : decode cJ8_indexOf_2 0 = .ok (.aload_n 0, 1) := dk_42 (dk_at dksJ8_indexOf_2_0 0 rfl rfl)
theorem dJ8_indexOf_2_1 : decode cJ8_indexOf_2 1 = .ok (.invokevirtual 492, 3) := dk_182 1 236 (dk_at dksJ8_indexOf_2_0 1 rfl rfl)
theorem dJ8_indexOf_2_4 : decode cJ8_indexOf_2 4 = .ok (.ifCond .eq 19, 3) := dk_153 0 19 (dk_at dksJ8_indexOf_2_0 4 rfl rfl)
theorem dJ8_indexOf_2_7 : decode cJ8_indexOf_2 7 = .ok (.aload_n 0, 1) := dk_42 (dk_at dksJ8_indexOf_2_0 7 rfl rfl)
theorem dJ8_indexOf_2_8 : decode cJ8_indexOf_2 8 = .ok (.getfield 9, 3) := dk_180 0 9 (dk_at dksJ8_indexOf_2_0 8 rfl rfl)
theorem dJ8_indexOf_2_11 : decode cJ8_indexOf_2 11 = .ok (.iload_n 1, 1) := dk_27 (dk_at dksJ8_indexOf_2_0 11 rfl rfl)
theorem dJ8_indexOf_2_12 : decode cJ8_indexOf_2 12 = .ok (.iload_n 2, 1) := dk_28 (dk_at dksJ8_indexOf_2_0 12 rfl rfl)
theorem dJ8_indexOf_2_13 : decode cJ8_indexOf_2 13 = .ok (.aload_n 0, 1) := dk_42 (dk_at dksJ8_indexOf_2_0 13 rfl rfl)
theorem dJ8_indexOf_2_14 : decode cJ8_indexOf_2 14 = .ok (.invokevirtual 505, 3) := dk_182 1 249 (dk_at dksJ8_indexOf_2_0 14 rfl rfl)
theorem dJ8_indexOf_2_17 : decode cJ8_indexOf_2 17 = .ok (.invokestatic 637, 3) := dk_184 2 125 (dk_at dksJ8_indexOf_2_0 17 rfl rfl)
theorem dJ8_indexOf_2_20 : decode cJ8_indexOf_2 20 = .ok (.goto 16, 3) := dk_167 0 16 (dk_at dksJ8_indexOf_2_0 20 rfl rfl)
theorem dJ8_indexOf_2_23 : decode cJ8_indexOf_2 23 = .ok (.aload_n 0, 1) := dk_42 (dk_at dksJ8_indexOf_2_0 23 rfl rfl)
theorem dJ8_indexOf_2_24 : decode cJ8_indexOf_2 24 = .ok (.getfield 9, 3) := dk_180 0 9 (dk_at dksJ8_indexOf_2_1 0 rfl rfl)
theorem dJ8_indexOf_2_27 : decode cJ8_indexOf_2 27 = .ok (.iload_n 1, 1) := dk_27 (dk_at dksJ8_indexOf_2_1 3 rfl rfl)
theorem dJ8_indexOf_2_28 : decode cJ8_indexOf_2 28 = .ok (.iload_n 2, 1) := dk_28 (dk_at dksJ8_indexOf_2_1 4 rfl rfl)
theorem dJ8_indexOf_2_29 : decode cJ8_indexOf_2 29 = .ok (.aload_n 0, 1) := dk_42 (dk_at dksJ8_indexOf_2_1 5 rfl rfl)
theorem dJ8_indexOf_2_30 : decode cJ8_indexOf_2 30 = .ok (.invokevirtual 505, 3) := dk_182 1 249 (dk_at dksJ8_indexOf_2_1 6 rfl rfl)
theorem dJ8_indexOf_2_33 : decode cJ8_indexOf_2 33 = .ok (.invokestatic 640, 3) := dk_184 2 128 (dk_at dksJ8_indexOf_2_1 9 rfl rfl)
theorem dJ8_indexOf_2_36 : decode cJ8_indexOf_2 36 = .ok (.ireturn, 1) := dk_172 (dk_at dksJ8_indexOf_2_1 12 rfl rfl)
abbrev cJ8_isLatin1 : ByteArray := prog_28_method_154_code
def yJ8_isLatin1 : MethodName := ⟨RJ8, "isLatin1", "()Z"⟩
def dkwJ8_isLatin1_0 : List UInt8 := [178, 0, 38, 153, 0, 14, 42, 180, 0, 15, 154, 0, 7, 4, 167, 0, 4, 3, 172]
abbrev dktJ8_isLatin1_0 : List UInt8 := dkwJ8_isLatin1_0 ++ []
theorem dksJ8_isLatin1_0 : cJ8_isLatin1.data.toList.drop 0 = dktJ8_isLatin1_0 := by decide +kernel
theorem dJ8_isLatin1_0 : decode cJ8_isLatin1 0 = .ok (.getstatic 38, 3) := dk_178 0 38 (dk_at dksJ8_isLatin1_0 0 rfl rfl)
theorem dJ8_isLatin1_3 : decode cJ8_isLatin1 3 = .ok (.ifCond .eq 14, 3) := dk_153 0 14 (dk_at dksJ8_isLatin1_0 3 rfl rfl)
theorem dJ8_isLatin1_6 : decode cJ8_isLatin1 6 = .ok (.aload_n 0, 1) := dk_42 (dk_at dksJ8_isLatin1_0 6 rfl rfl)
theorem dJ8_isLatin1_7 : decode cJ8_isLatin1 7 = .ok (.getfield 15, 3) := dk_180 0 15 (dk_at dksJ8_isLatin1_0 7 rfl rfl)
theorem dJ8_isLatin1_10 : decode cJ8_isLatin1 10 = .ok (.ifCond .ne 7, 3) := dk_154 0 7 (dk_at dksJ8_isLatin1_0 10 rfl rfl)
theorem dJ8_isLatin1_13 : decode cJ8_isLatin1 13 = .ok (.iconst 1, 1) := dk_4 (dk_at dksJ8_isLatin1_0 13 rfl rfl)
theorem dJ8_isLatin1_14 : decode cJ8_isLatin1 14 = .ok (.goto 4, 3) := dk_167 0 4 (dk_at dksJ8_isLatin1_0 14 rfl rfl)
theorem dJ8_isLatin1_17 : decode cJ8_isLatin1 17 = .ok (.iconst 0, 1) := dk_3 (dk_at dksJ8_isLatin1_0 17 rfl rfl)
theorem dJ8_isLatin1_18 : decode cJ8_isLatin1 18 = .ok (.ireturn, 1) := dk_172 (dk_at dksJ8_isLatin1_0 18 rfl rfl)
abbrev cJ8_length : ByteArray := prog_28_method_54_code
def yJ8_length : MethodName := ⟨RJ8, "length", "()I"⟩
def dkwJ8_length_0 : List UInt8 := [42, 180, 0, 9, 190, 42, 182, 1, 79, 122, 172]
abbrev dktJ8_length_0 : List UInt8 := dkwJ8_length_0 ++ []
theorem dksJ8_length_0 : cJ8_length.data.toList.drop 0 = dktJ8_length_0 := by decide +kernel
theorem dJ8_length_0 : decode cJ8_length 0 = .ok (.aload_n 0, 1) := dk_42 (dk_at dksJ8_length_0 0 rfl rfl)
theorem dJ8_length_1 : decode cJ8_length 1 = .ok (.getfield 9, 3) := dk_180 0 9 (dk_at dksJ8_length_0 1 rfl rfl)
theorem dJ8_length_4 : decode cJ8_length 4 = .ok (.arraylength, 1) := dk_190 (dk_at dksJ8_length_0 4 rfl rfl)
theorem dJ8_length_5 : decode cJ8_length 5 = .ok (.aload_n 0, 1) := dk_42 (dk_at dksJ8_length_0 5 rfl rfl)
theorem dJ8_length_6 : decode cJ8_length 6 = .ok (.invokevirtual 335, 3) := dk_182 1 79 (dk_at dksJ8_length_0 6 rfl rfl)
theorem dJ8_length_9 : decode cJ8_length 9 = .ok (.ishr, 1) := dk_122 (dk_at dksJ8_length_0 9 rfl rfl)
theorem dJ8_length_10 : decode cJ8_length 10 = .ok (.ireturn, 1) := dk_172 (dk_at dksJ8_length_0 10 rfl rfl)
abbrev cJ8_coder : ByteArray := prog_28_method_152_code
def yJ8_coder : MethodName := ⟨RJ8, "coder", "()B"⟩
def dkwJ8_coder_0 : List UInt8 := [178, 0, 38, 153, 0, 10, 42, 180, 0, 15, 167, 0, 4, 4, 172]
abbrev dktJ8_coder_0 : List UInt8 := dkwJ8_coder_0 ++ []
theorem dksJ8_coder_0 : cJ8_coder.data.toList.drop 0 = dktJ8_coder_0 := by decide +kernel
theorem dJ8_coder_0 : decode cJ8_coder 0 = .ok (.getstatic 38, 3) := dk_178 0 38 (dk_at dksJ8_coder_0 0 rfl rfl)
theorem dJ8_coder_3 : decode cJ8_coder 3 = .ok (.ifCond .eq 10, 3) := dk_153 0 10 (dk_at dksJ8_coder_0 3 rfl rfl)
theorem dJ8_coder_6 : decode cJ8_coder 6 = .ok (.aload_n 0, 1) := dk_42 (dk_at dksJ8_coder_0 6 rfl rfl)
theorem dJ8_coder_7 : decode cJ8_coder 7 = .ok (.getfield 15, 3) := dk_180 0 15 (dk_at dksJ8_coder_0 7 rfl rfl)
theorem dJ8_coder_10 : decode cJ8_coder 10 = .ok (.goto 4, 3) := dk_167 0 4 (dk_at dksJ8_coder_0 10 rfl rfl)
theorem dJ8_coder_13 : decode cJ8_coder 13 = .ok (.iconst 1, 1) := dk_4 (dk_at dksJ8_coder_0 13 rfl rfl)
theorem dJ8_coder_14 : decode cJ8_coder 14 = .ok (.ireturn, 1) := dk_172 (dk_at dksJ8_coder_0 14 rfl rfl)
abbrev cJ8_checkBoundsBeginEnd : ByteArray := prog_28_method_158_code
def yJ8_checkBoundsBeginEnd : MethodName := ⟨RJ8, "checkBoundsBeginEnd", "(III)V"⟩
def dkwJ8_checkBoundsBeginEnd_0 : List UInt8 := [26, 27, 28, 178, 4, 29, 184, 4, 38, 87, 177]
abbrev dktJ8_checkBoundsBeginEnd_0 : List UInt8 := dkwJ8_checkBoundsBeginEnd_0 ++ []
theorem dksJ8_checkBoundsBeginEnd_0 : cJ8_checkBoundsBeginEnd.data.toList.drop 0 = dktJ8_checkBoundsBeginEnd_0 := by decide +kernel
theorem dJ8_checkBoundsBeginEnd_0 : decode cJ8_checkBoundsBeginEnd 0 = .ok (.iload_n 0, 1) := dk_26 (dk_at dksJ8_checkBoundsBeginEnd_0 0 rfl rfl)
theorem dJ8_checkBoundsBeginEnd_1 : decode cJ8_checkBoundsBeginEnd 1 = .ok (.iload_n 1, 1) := dk_27 (dk_at dksJ8_checkBoundsBeginEnd_0 1 rfl rfl)
theorem dJ8_checkBoundsBeginEnd_2 : decode cJ8_checkBoundsBeginEnd 2 = .ok (.iload_n 2, 1) := dk_28 (dk_at dksJ8_checkBoundsBeginEnd_0 2 rfl rfl)
theorem dJ8_checkBoundsBeginEnd_3 : decode cJ8_checkBoundsBeginEnd 3 = .ok (.getstatic 1053, 3) := dk_178 4 29 (dk_at dksJ8_checkBoundsBeginEnd_0 3 rfl rfl)
theorem dJ8_checkBoundsBeginEnd_6 : decode cJ8_checkBoundsBeginEnd 6 = .ok (.invokestatic 1062, 3) := dk_184 4 38 (dk_at dksJ8_checkBoundsBeginEnd_0 6 rfl rfl)
theorem dJ8_checkBoundsBeginEnd_9 : decode cJ8_checkBoundsBeginEnd 9 = .ok (.pop, 1) := dk_87 (dk_at dksJ8_checkBoundsBeginEnd_0 9 rfl rfl)
theorem dJ8_checkBoundsBeginEnd_10 : decode cJ8_checkBoundsBeginEnd 10 = .ok (.return_, 1) := dk_177 (dk_at dksJ8_checkBoundsBeginEnd_0 10 rfl rfl)
abbrev cJ8_charAt : ByteArray := prog_28_method_56_code
def yJ8_charAt : MethodName := ⟨RJ8, "charAt", "(I)C"⟩
def dkwJ8_charAt_1 : List UInt8 := [172]
abbrev dktJ8_charAt_1 : List UInt8 := dkwJ8_charAt_1 ++ []
def dkwJ8_charAt_0 : List UInt8 := [42, 182, 1, 236, 153, 0, 12, 42, 180, 0, 9, 27, 184, 1, 239, 172, 42, 180, 0, 9, 27, 184, 1, 242]
abbrev dktJ8_charAt_0 : List UInt8 := dkwJ8_charAt_0 ++ dktJ8_charAt_1
theorem dksJ8_charAt_0 : cJ8_charAt.data.toList.drop 0 = dktJ8_charAt_0 := by decide +kernel
theorem dksJ8_charAt_1 : cJ8_charAt.data.toList.drop 24 = dktJ8_charAt_1 := dk_seg dksJ8_charAt_0 24 rfl rfl
theorem dJ8_charAt_0 : decode cJ8_charAt 0 = .ok (.aload_n 0, 1) := dk_42 (dk_at dksJ8_charAt_0 0 rfl rfl)
theorem dJ8_charAt_1 : decode cJ8_charAt 1 = .ok (.invokevirtual 492, 3) := dk_182 1 236 (dk_at dksJ8_charAt_0 1 rfl rfl)
theorem dJ8_charAt_4 : decode cJ8_charAt 4 = .ok (.ifCond .eq 12, 3) := dk_153 0 12 (dk_at dksJ8_charAt_0 4 rfl rfl)
theorem dJ8_charAt_7 : decode cJ8_charAt 7 = .ok (.aload_n 0, 1) := dk_42 (dk_at dksJ8_charAt_0 7 rfl rfl)
theorem dJ8_charAt_8 : decode cJ8_charAt 8 = .ok (.getfield 9, 3) := dk_180 0 9 (dk_at dksJ8_charAt_0 8 rfl rfl)
theorem dJ8_charAt_11 : decode cJ8_charAt 11 = .ok (.iload_n 1, 1) := dk_27 (dk_at dksJ8_charAt_0 11 rfl rfl)
theorem dJ8_charAt_12 : decode cJ8_charAt 12 = .ok (.invokestatic 495, 3) := dk_184 1 239 (dk_at dksJ8_charAt_0 12 rfl rfl)
theorem dJ8_charAt_15 : decode cJ8_charAt 15 = .ok (.ireturn, 1) := dk_172 (dk_at dksJ8_charAt_0 15 rfl rfl)
theorem dJ8_charAt_16 : decode cJ8_charAt 16 = .ok (.aload_n 0, 1) := dk_42 (dk_at dksJ8_charAt_0 16 rfl rfl)
theorem dJ8_charAt_17 : decode cJ8_charAt 17 = .ok (.getfield 9, 3) := dk_180 0 9 (dk_at dksJ8_charAt_0 17 rfl rfl)
theorem dJ8_charAt_20 : decode cJ8_charAt 20 = .ok (.iload_n 1, 1) := dk_27 (dk_at dksJ8_charAt_0 20 rfl rfl)
theorem dJ8_charAt_21 : decode cJ8_charAt 21 = .ok (.invokestatic 498, 3) := dk_184 1 242 (dk_at dksJ8_charAt_0 21 rfl rfl)
theorem dJ8_charAt_24 : decode cJ8_charAt 24 = .ok (.ireturn, 1) := dk_172 (dk_at dksJ8_charAt_1 0 rfl rfl)
abbrev cJ8_checkBoundsOffCount : ByteArray := prog_28_method_157_code
def yJ8_checkBoundsOffCount : MethodName := ⟨RJ8, "checkBoundsOffCount", "(III)I"⟩
def dkwJ8_checkBoundsOffCount_0 : List UInt8 := [26, 27, 28, 178, 4, 29, 184, 4, 41, 172]
abbrev dktJ8_checkBoundsOffCount_0 : List UInt8 := dkwJ8_checkBoundsOffCount_0 ++ []
theorem dksJ8_checkBoundsOffCount_0 : cJ8_checkBoundsOffCount.data.toList.drop 0 = dktJ8_checkBoundsOffCount_0 := by decide +kernel
theorem dJ8_checkBoundsOffCount_0 : decode cJ8_checkBoundsOffCount 0 = .ok (.iload_n 0, 1) := dk_26 (dk_at dksJ8_checkBoundsOffCount_0 0 rfl rfl)
theorem dJ8_checkBoundsOffCount_1 : decode cJ8_checkBoundsOffCount 1 = .ok (.iload_n 1, 1) := dk_27 (dk_at dksJ8_checkBoundsOffCount_0 1 rfl rfl)
theorem dJ8_checkBoundsOffCount_2 : decode cJ8_checkBoundsOffCount 2 = .ok (.iload_n 2, 1) := dk_28 (dk_at dksJ8_checkBoundsOffCount_0 2 rfl rfl)
theorem dJ8_checkBoundsOffCount_3 : decode cJ8_checkBoundsOffCount 3 = .ok (.getstatic 1053, 3) := dk_178 4 29 (dk_at dksJ8_checkBoundsOffCount_0 3 rfl rfl)
theorem dJ8_checkBoundsOffCount_6 : decode cJ8_checkBoundsOffCount 6 = .ok (.invokestatic 1065, 3) := dk_184 4 41 (dk_at dksJ8_checkBoundsOffCount_0 6 rfl rfl)
theorem dJ8_checkBoundsOffCount_9 : decode cJ8_checkBoundsOffCount 9 = .ok (.ireturn, 1) := dk_172 (dk_at dksJ8_checkBoundsOffCount_0 9 rfl rfl)
theorem q148 : (Jvm.Cond.initialized "java/lang/String") ∈ lw_all := lw_g (lw_at lw_m1 14 rfl) rfl
theorem q568 : (Jvm.Cond.static ({ cls := "java/lang/String", name := "checkIndex", desc := "(II)V" } : Jvm.MethodName)) ∈ lw_all := lw_g (lw_at lw_m2 194 rfl) rfl
theorem q569 : (Jvm.Cond.code ({ cls := "java/lang/String", name := "checkIndex", desc := "(II)V" } : Jvm.MethodName) prog_28_method_155_code (2 : Nat) (Option.none : Option Jvm.ClassFile.FieldType)) ∈ lw_all := lw_g (lw_at lw_m2 195 rfl) rfl
theorem q570 : (Jvm.Cond.fieldLink "java/lang/String" (1053 : Nat) "jdk/internal/util/Preconditions" "SIOOBE_FORMATTER" "Ljava/util/function/BiFunction;") ∈ lw_all := lw_g (lw_at lw_m2 196 rfl) rfl
theorem q572 : (Jvm.Cond.methodLink "java/lang/String" (1059 : Nat) ({ cls := "jdk/internal/util/Preconditions", name := "checkIndex", desc := "(IILjava/util/function/BiFunction;)I" } : Jvm.MethodName)) ∈ lw_all := lw_g (lw_at lw_m2 198 rfl) rfl
theorem q852 : (Jvm.Cond.instanceMethod ({ cls := "java/lang/String", name := "indexOf", desc := "(I)I" } : Jvm.MethodName)) ∈ lw_all := lw_g (lw_at lw_m3 238 rfl) rfl
theorem q853 : (Jvm.Cond.selects "java/lang/String" ({ cls := "java/lang/String", name := "indexOf", desc := "(I)I" } : Jvm.MethodName) ({ cls := "java/lang/String", name := "indexOf", desc := "(I)I" } : Jvm.MethodName)) ∈ lw_all := lw_g (lw_at lw_m3 239 rfl) rfl
theorem q854 : (Jvm.Cond.code ({ cls := "java/lang/String", name := "indexOf", desc := "(I)I" } : Jvm.MethodName) prog_28_method_79_code (2 : Nat) (Option.some Jvm.ClassFile.FieldType.int)) ∈ lw_all := lw_g (lw_at lw_m4 0 rfl) rfl
theorem q855 : (Jvm.Cond.methodLink "java/lang/String" (633 : Nat) ({ cls := "java/lang/String", name := "indexOf", desc := "(II)I" } : Jvm.MethodName)) ∈ lw_all := lw_g (lw_at lw_m4 1 rfl) rfl
theorem q856 : (Jvm.Cond.instanceMethod ({ cls := "java/lang/String", name := "indexOf", desc := "(II)I" } : Jvm.MethodName)) ∈ lw_all := lw_g (lw_at lw_m4 2 rfl) rfl
theorem q857 : (Jvm.Cond.selects "java/lang/String" ({ cls := "java/lang/String", name := "indexOf", desc := "(II)I" } : Jvm.MethodName) ({ cls := "java/lang/String", name := "indexOf", desc := "(II)I" } : Jvm.MethodName)) ∈ lw_all := lw_g (lw_at lw_m4 3 rfl) rfl
theorem q858 : (Jvm.Cond.code ({ cls := "java/lang/String", name := "indexOf", desc := "(II)I" } : Jvm.MethodName) prog_28_method_80_code (3 : Nat) (Option.some Jvm.ClassFile.FieldType.int)) ∈ lw_all := lw_g (lw_at lw_m4 4 rfl) rfl
theorem q859 : (Jvm.Cond.methodLink "java/lang/String" (492 : Nat) ({ cls := "java/lang/String", name := "isLatin1", desc := "()Z" } : Jvm.MethodName)) ∈ lw_all := lw_g (lw_at lw_m4 5 rfl) rfl
theorem q860 : (Jvm.Cond.instanceMethod ({ cls := "java/lang/String", name := "isLatin1", desc := "()Z" } : Jvm.MethodName)) ∈ lw_all := lw_g (lw_at lw_m4 6 rfl) rfl
theorem q861 : (Jvm.Cond.selects "java/lang/String" ({ cls := "java/lang/String", name := "isLatin1", desc := "()Z" } : Jvm.MethodName) ({ cls := "java/lang/String", name := "isLatin1", desc := "()Z" } : Jvm.MethodName)) ∈ lw_all := lw_g (lw_at lw_m4 7 rfl) rfl
theorem q862 : (Jvm.Cond.code ({ cls := "java/lang/String", name := "isLatin1", desc := "()Z" } : Jvm.MethodName) prog_28_method_154_code (1 : Nat) (Option.some Jvm.ClassFile.FieldType.boolean)) ∈ lw_all := lw_g (lw_at lw_m4 8 rfl) rfl
theorem q863 : (Jvm.Cond.fieldLink "java/lang/String" (38 : Nat) "java/lang/String" "COMPACT_STRINGS" "Z") ∈ lw_all := lw_g (lw_at lw_m4 9 rfl) rfl
theorem q864 : (Jvm.Cond.laysStatic "java/lang/String" "COMPACT_STRINGS" "Z") ∈ lw_tbl := lw_at lw_m4 10 rfl
theorem q865 : (Jvm.Cond.methodLink "java/lang/String" (505 : Nat) ({ cls := "java/lang/String", name := "length", desc := "()I" } : Jvm.MethodName)) ∈ lw_all := lw_g (lw_at lw_m4 11 rfl) rfl
theorem q866 : (Jvm.Cond.instanceMethod ({ cls := "java/lang/String", name := "length", desc := "()I" } : Jvm.MethodName)) ∈ lw_all := lw_g (lw_at lw_m4 12 rfl) rfl
theorem q867 : (Jvm.Cond.selects "java/lang/String" ({ cls := "java/lang/String", name := "length", desc := "()I" } : Jvm.MethodName) ({ cls := "java/lang/String", name := "length", desc := "()I" } : Jvm.MethodName)) ∈ lw_all := lw_g (lw_at lw_m4 13 rfl) rfl
theorem q868 : (Jvm.Cond.code ({ cls := "java/lang/String", name := "length", desc := "()I" } : Jvm.MethodName) prog_28_method_54_code (1 : Nat) (Option.some Jvm.ClassFile.FieldType.int)) ∈ lw_all := lw_g (lw_at lw_m4 14 rfl) rfl
theorem q869 : (Jvm.Cond.methodLink "java/lang/String" (335 : Nat) ({ cls := "java/lang/String", name := "coder", desc := "()B" } : Jvm.MethodName)) ∈ lw_all := lw_g (lw_at lw_m4 15 rfl) rfl
theorem q870 : (Jvm.Cond.instanceMethod ({ cls := "java/lang/String", name := "coder", desc := "()B" } : Jvm.MethodName)) ∈ lw_all := lw_g (lw_at lw_m4 16 rfl) rfl
theorem q871 : (Jvm.Cond.selects "java/lang/String" ({ cls := "java/lang/String", name := "coder", desc := "()B" } : Jvm.MethodName) ({ cls := "java/lang/String", name := "coder", desc := "()B" } : Jvm.MethodName)) ∈ lw_all := lw_g (lw_at lw_m4 17 rfl) rfl
theorem q872 : (Jvm.Cond.code ({ cls := "java/lang/String", name := "coder", desc := "()B" } : Jvm.MethodName) prog_28_method_152_code (1 : Nat) (Option.some Jvm.ClassFile.FieldType.byte)) ∈ lw_all := lw_g (lw_at lw_m4 18 rfl) rfl
theorem q873 : (Jvm.Cond.methodLink "java/lang/String" (637 : Nat) ({ cls := "java/lang/StringLatin1", name := "indexOf", desc := "([BIII)I" } : Jvm.MethodName)) ∈ lw_all := lw_g (lw_at lw_m4 19 rfl) rfl
theorem q884 : (Jvm.Cond.methodLink "java/lang/String" (640 : Nat) ({ cls := "java/lang/StringUTF16", name := "indexOf", desc := "([BIII)I" } : Jvm.MethodName)) ∈ lw_all := lw_g (lw_at lw_m4 30 rfl) rfl
theorem q897 : (Jvm.Cond.static ({ cls := "java/lang/String", name := "checkBoundsBeginEnd", desc := "(III)V" } : Jvm.MethodName)) ∈ lw_all := lw_g (lw_at lw_m4 43 rfl) rfl
theorem q898 : (Jvm.Cond.code ({ cls := "java/lang/String", name := "checkBoundsBeginEnd", desc := "(III)V" } : Jvm.MethodName) prog_28_method_158_code (3 : Nat) (Option.none : Option Jvm.ClassFile.FieldType)) ∈ lw_all := lw_g (lw_at lw_m4 44 rfl) rfl
theorem q899 : (Jvm.Cond.methodLink "java/lang/String" (1062 : Nat) ({ cls := "jdk/internal/util/Preconditions", name := "checkFromToIndex", desc := "(IIILjava/util/function/BiFunction;)I" } : Jvm.MethodName)) ∈ lw_all := lw_g (lw_at lw_m4 45 rfl) rfl
theorem q934 : (Jvm.Cond.instanceMethod ({ cls := "java/lang/String", name := "charAt", desc := "(I)C" } : Jvm.MethodName)) ∈ lw_all := lw_g (lw_at lw_m4 80 rfl) rfl
theorem q935 : (Jvm.Cond.selects "java/lang/String" ({ cls := "java/lang/String", name := "charAt", desc := "(I)C" } : Jvm.MethodName) ({ cls := "java/lang/String", name := "charAt", desc := "(I)C" } : Jvm.MethodName)) ∈ lw_all := lw_g (lw_at lw_m4 81 rfl) rfl
theorem q936 : (Jvm.Cond.code ({ cls := "java/lang/String", name := "charAt", desc := "(I)C" } : Jvm.MethodName) prog_28_method_56_code (2 : Nat) (Option.some Jvm.ClassFile.FieldType.char)) ∈ lw_all := lw_g (lw_at lw_m4 82 rfl) rfl
theorem q937 : (Jvm.Cond.methodLink "java/lang/String" (495 : Nat) ({ cls := "java/lang/StringLatin1", name := "charAt", desc := "([BI)C" } : Jvm.MethodName)) ∈ lw_all := lw_g (lw_at lw_m4 83 rfl) rfl
theorem q941 : (Jvm.Cond.methodLink "java/lang/String" (498 : Nat) ({ cls := "java/lang/StringUTF16", name := "charAt", desc := "([BI)C" } : Jvm.MethodName)) ∈ lw_all := lw_g (lw_at lw_m4 87 rfl) rfl
theorem q1140 : (Jvm.Cond.static ({ cls := "java/lang/String", name := "checkBoundsOffCount", desc := "(III)I" } : Jvm.MethodName)) ∈ lw_all := lw_g (lw_at lw_m5 46 rfl) rfl
theorem q1141 : (Jvm.Cond.code ({ cls := "java/lang/String", name := "checkBoundsOffCount", desc := "(III)I" } : Jvm.MethodName) prog_28_method_157_code (3 : Nat) (Option.some Jvm.ClassFile.FieldType.int)) ∈ lw_all := lw_g (lw_at lw_m5 47 rfl) rfl
theorem q1142 : (Jvm.Cond.methodLink "java/lang/String" (1065 : Nat) ({ cls := "jdk/internal/util/Preconditions", name := "checkFromIndexSize", desc := "(IIILjava/util/function/BiFunction;)I" } : Jvm.MethodName)) ∈ lw_all := lw_g (lw_at lw_m5 48 rfl) rfl
theorem q2356 : (Jvm.Cond.castable "java/lang/String" "java/lang/Object") ∈ lw_tbl := lw_at lw_m10 62 rfl
theorem q2382 : (Jvm.Cond.fieldLink "java/lang/String" (15 : Nat) "java/lang/String" "coder" "B") ∈ lw_all := lw_g (lw_at lw_m10 88 rfl) rfl
theorem q2383 : (Jvm.Cond.fieldLink "java/lang/String" (9 : Nat) "java/lang/String" "value" "[B") ∈ lw_all := lw_g (lw_at lw_m10 89 rfl) rfl

/-! java/lang/StringLatin1 -/
set_option maxRecDepth 100000
def RJ9 : String := "java/lang/StringLatin1"
abbrev cJ9_indexOf : ByteArray := prog_30_method_22_code
def yJ9_indexOf : MethodName := ⟨RJ9, "indexOf", "([BIII)I"⟩
def dkwJ9_indexOf_1 : List UInt8 := [161, 0, 5, 2, 172, 42, 27, 28, 29, 184, 0, 95, 172]
abbrev dktJ9_indexOf_1 : List UInt8 := dkwJ9_indexOf_1 ++ []
def dkwJ9_indexOf_0 : List UInt8 := [27, 184, 0, 88, 154, 0, 5, 2, 172, 28, 3, 184, 0, 92, 61, 29, 42, 190, 184, 0, 38, 62, 28, 29]
abbrev dktJ9_indexOf_0 : List UInt8 := dkwJ9_indexOf_0 ++ dktJ9_indexOf_1
theorem dksJ9_indexOf_0 : cJ9_indexOf.data.toList.drop 0 = dktJ9_indexOf_0 := by decide +kernel
theorem dksJ9_indexOf_1 : cJ9_indexOf.data.toList.drop 24 = dktJ9_indexOf_1 := dk_seg dksJ9_indexOf_0 24 rfl rfl
theorem dJ9_indexOf_0 : decode cJ9_indexOf 0 = .ok (.iload_n 1, 1) := dk_27 (dk_at dksJ9_indexOf_0 0 rfl rfl)
theorem dJ9_indexOf_1 : decode cJ9_indexOf 1 = .ok (.invokestatic 88, 3) := dk_184 0 88 (dk_at dksJ9_indexOf_0 1 rfl rfl)
theorem dJ9_indexOf_4 : decode cJ9_indexOf 4 = .ok (.ifCond .ne 5, 3) := dk_154 0 5 (dk_at dksJ9_indexOf_0 4 rfl rfl)
theorem dJ9_indexOf_7 : decode cJ9_indexOf 7 = .ok (.iconst (-1), 1) := dk_2 (dk_at dksJ9_indexOf_0 7 rfl rfl)
theorem dJ9_indexOf_8 : decode cJ9_indexOf 8 = .ok (.ireturn, 1) := dk_172 (dk_at dksJ9_indexOf_0 8 rfl rfl)
theorem dJ9_indexOf_9 : decode cJ9_indexOf 9 = .ok (.iload_n 2, 1) := dk_28 (dk_at dksJ9_indexOf_0 9 rfl rfl)
theorem dJ9_indexOf_10 : decode cJ9_indexOf 10 = .ok (.iconst 0, 1) := dk_3 (dk_at dksJ9_indexOf_0 10 rfl rfl)
theorem dJ9_indexOf_11 : decode cJ9_indexOf 11 = .ok (.invokestatic 92, 3) := dk_184 0 92 (dk_at dksJ9_indexOf_0 11 rfl rfl)
theorem dJ9_indexOf_14 : decode cJ9_indexOf 14 = .ok (.istore_n 2, 1) := dk_61 (dk_at dksJ9_indexOf_0 14 rfl rfl)
theorem dJ9_indexOf_15 : decode cJ9_indexOf 15 = .ok (.iload_n 3, 1) := dk_29 (dk_at dksJ9_indexOf_0 15 rfl rfl)
theorem dJ9_indexOf_16 : decode cJ9_indexOf 16 = .ok (.aload_n 0, 1) := dk_42 (dk_at dksJ9_indexOf_0 16 rfl rfl)
theorem dJ9_indexOf_17 : decode cJ9_indexOf 17 = .ok (.arraylength, 1) := dk_190 (dk_at dksJ9_indexOf_0 17 rfl rfl)
theorem dJ9_indexOf_18 : decode cJ9_indexOf 18 = .ok (.invokestatic 38, 3) := dk_184 0 38 (dk_at dksJ9_indexOf_0 18 rfl rfl)
theorem dJ9_indexOf_21 : decode cJ9_indexOf 21 = .ok (.istore_n 3, 1) := dk_62 (dk_at dksJ9_indexOf_0 21 rfl rfl)
theorem dJ9_indexOf_22 : decode cJ9_indexOf 22 = .ok (.iload_n 2, 1) := dk_28 (dk_at dksJ9_indexOf_0 22 rfl rfl)
theorem dJ9_indexOf_23 : decode cJ9_indexOf 23 = .ok (.iload_n 3, 1) := dk_29 (dk_at dksJ9_indexOf_0 23 rfl rfl)
theorem dJ9_indexOf_24 : decode cJ9_indexOf 24 = .ok (.if_icmp .lt 5, 3) := dk_161 0 5 (dk_at dksJ9_indexOf_1 0 rfl rfl)
theorem dJ9_indexOf_27 : decode cJ9_indexOf 27 = .ok (.iconst (-1), 1) := dk_2 (dk_at dksJ9_indexOf_1 3 rfl rfl)
theorem dJ9_indexOf_28 : decode cJ9_indexOf 28 = .ok (.ireturn, 1) := dk_172 (dk_at dksJ9_indexOf_1 4 rfl rfl)
theorem dJ9_indexOf_29 : decode cJ9_indexOf 29 = .ok (.aload_n 0, 1) := dk_42 (dk_at dksJ9_indexOf_1 5 rfl rfl)
theorem dJ9_indexOf_30 : decode cJ9_indexOf 30 = .ok (.iload_n 1, 1) := dk_27 (dk_at dksJ9_indexOf_1 6 rfl rfl)
theorem dJ9_indexOf_31 : decode cJ9_indexOf 31 = .ok (.iload_n 2, 1) := dk_28 (dk_at dksJ9_indexOf_1 7 rfl rfl)
theorem dJ9_indexOf_32 : decode cJ9_indexOf 32 = .ok (.iload_n 3, 1) := dk_29 (dk_at dksJ9_indexOf_1 8 rfl rfl)
theorem dJ9_indexOf_33 : decode cJ9_indexOf 33 = .ok (.invokestatic 95, 3) := dk_184 0 95 (dk_at dksJ9_indexOf_1 9 rfl rfl)
theorem dJ9_indexOf_36 : decode cJ9_indexOf 36 = .ok (.ireturn, 1) := dk_172 (dk_at dksJ9_indexOf_1 12 rfl rfl)
abbrev cJ9_canEncode : ByteArray := prog_30_method_4_code
def yJ9_canEncode : MethodName := ⟨RJ9, "canEncode", "(I)Z"⟩
def dkwJ9_canEncode_0 : List UInt8 := [26, 155, 0, 14, 26, 17, 0, 255, 163, 0, 7, 4, 167, 0, 4, 3, 172]
abbrev dktJ9_canEncode_0 : List UInt8 := dkwJ9_canEncode_0 ++ []
theorem dksJ9_canEncode_0 : cJ9_canEncode.data.toList.drop 0 = dktJ9_canEncode_0 := by decide +kernel
theorem dJ9_canEncode_0 : decode cJ9_canEncode 0 = .ok (.iload_n 0, 1) := dk_26 (dk_at dksJ9_canEncode_0 0 rfl rfl)
theorem dJ9_canEncode_1 : decode cJ9_canEncode 1 = .ok (.ifCond .lt 14, 3) := dk_155 0 14 (dk_at dksJ9_canEncode_0 1 rfl rfl)
theorem dJ9_canEncode_4 : decode cJ9_canEncode 4 = .ok (.iload_n 0, 1) := dk_26 (dk_at dksJ9_canEncode_0 4 rfl rfl)
theorem dJ9_canEncode_5 : decode cJ9_canEncode 5 = .ok (.sipush 255, 3) := dk_17 0 255 (dk_at dksJ9_canEncode_0 5 rfl rfl)
theorem dJ9_canEncode_8 : decode cJ9_canEncode 8 = .ok (.if_icmp .gt 7, 3) := dk_163 0 7 (dk_at dksJ9_canEncode_0 8 rfl rfl)
theorem dJ9_canEncode_11 : decode cJ9_canEncode 11 = .ok (.iconst 1, 1) := dk_4 (dk_at dksJ9_canEncode_0 11 rfl rfl)
theorem dJ9_canEncode_12 : decode cJ9_canEncode 12 = .ok (.goto 4, 3) := dk_167 0 4 (dk_at dksJ9_canEncode_0 12 rfl rfl)
theorem dJ9_canEncode_15 : decode cJ9_canEncode 15 = .ok (.iconst 0, 1) := dk_3 (dk_at dksJ9_canEncode_0 15 rfl rfl)
theorem dJ9_canEncode_16 : decode cJ9_canEncode 16 = .ok (.ireturn, 1) := dk_172 (dk_at dksJ9_canEncode_0 16 rfl rfl)
abbrev cJ9_indexOfChar : ByteArray := prog_30_method_23_code
def yJ9_indexOfChar : MethodName := ⟨RJ9, "indexOfChar", "([BIII)I"⟩
def dkwJ9_indexOfChar_1 : List UInt8 := [172, 132, 5, 1, 167, 255, 235, 2, 172]
abbrev dktJ9_indexOfChar_1 : List UInt8 := dkwJ9_indexOfChar_1 ++ []
def dkwJ9_indexOfChar_0 : List UInt8 := [27, 145, 54, 4, 28, 54, 5, 21, 5, 29, 162, 0, 21, 42, 21, 5, 51, 21, 4, 160, 0, 6, 21, 5]
abbrev dktJ9_indexOfChar_0 : List UInt8 := dkwJ9_indexOfChar_0 ++ dktJ9_indexOfChar_1
theorem dksJ9_indexOfChar_0 : cJ9_indexOfChar.data.toList.drop 0 = dktJ9_indexOfChar_0 := by decide +kernel
theorem dksJ9_indexOfChar_1 : cJ9_indexOfChar.data.toList.drop 24 = dktJ9_indexOfChar_1 := dk_seg dksJ9_indexOfChar_0 24 rfl rfl
theorem dJ9_indexOfChar_0 : decode cJ9_indexOfChar 0 = .ok (.iload_n 1, 1) := dk_27 (dk_at dksJ9_indexOfChar_0 0 rfl rfl)
theorem dJ9_indexOfChar_1 : decode cJ9_indexOfChar 1 = .ok (.i2b, 1) := dk_145 (dk_at dksJ9_indexOfChar_0 1 rfl rfl)
theorem dJ9_indexOfChar_2 : decode cJ9_indexOfChar 2 = .ok (.istore 4, 2) := dk_54 4 (dk_at dksJ9_indexOfChar_0 2 rfl rfl)
theorem dJ9_indexOfChar_4 : decode cJ9_indexOfChar 4 = .ok (.iload_n 2, 1) := dk_28 (dk_at dksJ9_indexOfChar_0 4 rfl rfl)
theorem dJ9_indexOfChar_5 : decode cJ9_indexOfChar 5 = .ok (.istore 5, 2) := dk_54 5 (dk_at dksJ9_indexOfChar_0 5 rfl rfl)
theorem dJ9_indexOfChar_7 : decode cJ9_indexOfChar 7 = .ok (.iload 5, 2) := dk_21 5 (dk_at dksJ9_indexOfChar_0 7 rfl rfl)
theorem dJ9_indexOfChar_9 : decode cJ9_indexOfChar 9 = .ok (.iload_n 3, 1) := dk_29 (dk_at dksJ9_indexOfChar_0 9 rfl rfl)
theorem dJ9_indexOfChar_10 : decode cJ9_indexOfChar 10 = .ok (.if_icmp .ge 21, 3) := dk_162 0 21 (dk_at dksJ9_indexOfChar_0 10 rfl rfl)
theorem dJ9_indexOfChar_13 : decode cJ9_indexOfChar 13 = .ok (.aload_n 0, 1) := dk_42 (dk_at dksJ9_indexOfChar_0 13 rfl rfl)
theorem dJ9_indexOfChar_14 : decode cJ9_indexOfChar 14 = .ok (.iload 5, 2) := dk_21 5 (dk_at dksJ9_indexOfChar_0 14 rfl rfl)
theorem dJ9_indexOfChar_16 : decode cJ9_indexOfChar 16 = .ok (.baload, 1) := dk_51 (dk_at dksJ9_indexOfChar_0 16 rfl rfl)
theorem dJ9_indexOfChar_17 : decode cJ9_indexOfChar 17 = .ok (.iload 4, 2) := dk_21 4 (dk_at dksJ9_indexOfChar_0 17 rfl rfl)
theorem dJ9_indexOfChar_19 : decode cJ9_indexOfChar 19 = .ok (.if_icmp .ne 6, 3) := dk_160 0 6 (dk_at dksJ9_indexOfChar_0 19 rfl rfl)
theorem dJ9_indexOfChar_22 : decode cJ9_indexOfChar 22 = .ok (.iload 5, 2) := dk_21 5 (dk_at dksJ9_indexOfChar_0 22 rfl rfl)
theorem dJ9_indexOfChar_24 : decode cJ9_indexOfChar 24 = .ok (.ireturn, 1) := dk_172 (dk_at dksJ9_indexOfChar_1 0 rfl rfl)
theorem dJ9_indexOfChar_25 : decode cJ9_indexOfChar 25 = .ok (.iinc 5 1, 3) := dk_132 5 1 (dk_at dksJ9_indexOfChar_1 1 rfl rfl)
theorem dJ9_indexOfChar_28 : decode cJ9_indexOfChar 28 = .ok (.goto (-21), 3) := dk_167 255 235 (dk_at dksJ9_indexOfChar_1 4 rfl rfl)
theorem dJ9_indexOfChar_31 : decode cJ9_indexOfChar 31 = .ok (.iconst (-1), 1) := dk_2 (dk_at dksJ9_indexOfChar_1 7 rfl rfl)
theorem dJ9_indexOfChar_32 : decode cJ9_indexOfChar 32 = .ok (.ireturn, 1) := dk_172 (dk_at dksJ9_indexOfChar_1 8 rfl rfl)
abbrev cJ9_charAt : ByteArray := prog_30_method_2_code
def yJ9_charAt : MethodName := ⟨RJ9, "charAt", "([BI)C"⟩
def dkwJ9_charAt_0 : List UInt8 := [27, 42, 190, 184, 0, 9, 42, 27, 51, 17, 0, 255, 126, 146, 172]
abbrev dktJ9_charAt_0 : List UInt8 := dkwJ9_charAt_0 ++ []
theorem dksJ9_charAt_0 : cJ9_charAt.data.toList.drop 0 = dktJ9_charAt_0 := by decide +kernel
theorem dJ9_charAt_0 : decode cJ9_charAt 0 = .ok (.iload_n 1, 1) := dk_27 (dk_at dksJ9_charAt_0 0 rfl rfl)
theorem dJ9_charAt_1 : decode cJ9_charAt 1 = .ok (.aload_n 0, 1) := dk_42 (dk_at dksJ9_charAt_0 1 rfl rfl)
theorem dJ9_charAt_2 : decode cJ9_charAt 2 = .ok (.arraylength, 1) := dk_190 (dk_at dksJ9_charAt_0 2 rfl rfl)
theorem dJ9_charAt_3 : decode cJ9_charAt 3 = .ok (.invokestatic 9, 3) := dk_184 0 9 (dk_at dksJ9_charAt_0 3 rfl rfl)
theorem dJ9_charAt_6 : decode cJ9_charAt 6 = .ok (.aload_n 0, 1) := dk_42 (dk_at dksJ9_charAt_0 6 rfl rfl)
theorem dJ9_charAt_7 : decode cJ9_charAt 7 = .ok (.iload_n 1, 1) := dk_27 (dk_at dksJ9_charAt_0 7 rfl rfl)
theorem dJ9_charAt_8 : decode cJ9_charAt 8 = .ok (.baload, 1) := dk_51 (dk_at dksJ9_charAt_0 8 rfl rfl)
theorem dJ9_charAt_9 : decode cJ9_charAt 9 = .ok (.sipush 255, 3) := dk_17 0 255 (dk_at dksJ9_charAt_0 9 rfl rfl)
theorem dJ9_charAt_12 : decode cJ9_charAt 12 = .ok (.iand, 1) := dk_126 (dk_at dksJ9_charAt_0 12 rfl rfl)
theorem dJ9_charAt_13 : decode cJ9_charAt 13 = .ok (.i2c, 1) := dk_146 (dk_at dksJ9_charAt_0 13 rfl rfl)
theorem dJ9_charAt_14 : decode cJ9_charAt 14 = .ok (.ireturn, 1) := dk_172 (dk_at dksJ9_charAt_0 14 rfl rfl)
abbrev cJ9_canEncode_2 : ByteArray := prog_30_method_3_code
def yJ9_canEncode_2 : MethodName := ⟨RJ9, "canEncode", "(C)Z"⟩
def dkwJ9_canEncode_2_0 : List UInt8 := [26, 17, 0, 255, 163, 0, 7, 4, 167, 0, 4, 3, 172]
abbrev dktJ9_canEncode_2_0 : List UInt8 := dkwJ9_canEncode_2_0 ++ []
theorem dksJ9_canEncode_2_0 : cJ9_canEncode_2.data.toList.drop 0 = dktJ9_canEncode_2_0 := by decide +kernel
theorem dJ9_canEncode_2_0 : decode cJ9_canEncode_2 0 = .ok (.iload_n 0, 1) := dk_26 (dk_at dksJ9_canEncode_2_0 0 rfl rfl)
theorem dJ9_canEncode_2_1 : decode cJ9_canEncode_2 1 = .ok (.sipush 255, 3) := dk_17 0 255 (dk_at dksJ9_canEncode_2_0 1 rfl rfl)
theorem dJ9_canEncode_2_4 : decode cJ9_canEncode_2 4 = .ok (.if_icmp .gt 7, 3) := dk_163 0 7 (dk_at dksJ9_canEncode_2_0 4 rfl rfl)
theorem dJ9_canEncode_2_7 : decode cJ9_canEncode_2 7 = .ok (.iconst 1, 1) := dk_4 (dk_at dksJ9_canEncode_2_0 7 rfl rfl)
theorem dJ9_canEncode_2_8 : decode cJ9_canEncode_2 8 = .ok (.goto 4, 3) := dk_167 0 4 (dk_at dksJ9_canEncode_2_0 8 rfl rfl)
theorem dJ9_canEncode_2_11 : decode cJ9_canEncode_2 11 = .ok (.iconst 0, 1) := dk_3 (dk_at dksJ9_canEncode_2_0 11 rfl rfl)
theorem dJ9_canEncode_2_12 : decode cJ9_canEncode_2 12 = .ok (.ireturn, 1) := dk_172 (dk_at dksJ9_canEncode_2_0 12 rfl rfl)
abbrev cJ9_inflate : ByteArray := prog_30_method_50_code
def yJ9_inflate : MethodName := ⟨RJ9, "inflate", "([BI[BII)V"⟩
def dkwJ9_inflate_0 : List UInt8 := [42, 27, 44, 29, 21, 4, 184, 0, 240, 177]
abbrev dktJ9_inflate_0 : List UInt8 := dkwJ9_inflate_0 ++ []
theorem dksJ9_inflate_0 : cJ9_inflate.data.toList.drop 0 = dktJ9_inflate_0 := by decide +kernel
theorem dJ9_inflate_0 : decode cJ9_inflate 0 = .ok (.aload_n 0, 1) := dk_42 (dk_at dksJ9_inflate_0 0 rfl rfl)
theorem dJ9_inflate_1 : decode cJ9_inflate 1 = .ok (.iload_n 1, 1) := dk_27 (dk_at dksJ9_inflate_0 1 rfl rfl)
theorem dJ9_inflate_2 : decode cJ9_inflate 2 = .ok (.aload_n 2, 1) := dk_44 (dk_at dksJ9_inflate_0 2 rfl rfl)
theorem dJ9_inflate_3 : decode cJ9_inflate 3 = .ok (.iload_n 3, 1) := dk_29 (dk_at dksJ9_inflate_0 3 rfl rfl)
theorem dJ9_inflate_4 : decode cJ9_inflate 4 = .ok (.iload 4, 2) := dk_21 4 (dk_at dksJ9_inflate_0 4 rfl rfl)
theorem dJ9_inflate_6 : decode cJ9_inflate 6 = .ok (.invokestatic 240, 3) := dk_184 0 240 (dk_at dksJ9_inflate_0 6 rfl rfl)
theorem dJ9_inflate_9 : decode cJ9_inflate 9 = .ok (.return_, 1) := dk_177 (dk_at dksJ9_inflate_0 9 rfl rfl)
theorem q149 : (Jvm.Cond.initialized "java/lang/StringLatin1") ∈ lw_all := lw_g (lw_at lw_m1 15 rfl) rfl
theorem q874 : (Jvm.Cond.static ({ cls := "java/lang/StringLatin1", name := "indexOf", desc := "([BIII)I" } : Jvm.MethodName)) ∈ lw_all := lw_g (lw_at lw_m4 20 rfl) rfl
theorem q875 : (Jvm.Cond.code ({ cls := "java/lang/StringLatin1", name := "indexOf", desc := "([BIII)I" } : Jvm.MethodName) prog_30_method_22_code (4 : Nat) (Option.some Jvm.ClassFile.FieldType.int)) ∈ lw_all := lw_g (lw_at lw_m4 21 rfl) rfl
theorem q876 : (Jvm.Cond.methodLink "java/lang/StringLatin1" (88 : Nat) ({ cls := "java/lang/StringLatin1", name := "canEncode", desc := "(I)Z" } : Jvm.MethodName)) ∈ lw_all := lw_g (lw_at lw_m4 22 rfl) rfl
theorem q877 : (Jvm.Cond.static ({ cls := "java/lang/StringLatin1", name := "canEncode", desc := "(I)Z" } : Jvm.MethodName)) ∈ lw_all := lw_g (lw_at lw_m4 23 rfl) rfl
theorem q878 : (Jvm.Cond.code ({ cls := "java/lang/StringLatin1", name := "canEncode", desc := "(I)Z" } : Jvm.MethodName) prog_30_method_4_code (1 : Nat) (Option.some Jvm.ClassFile.FieldType.boolean)) ∈ lw_all := lw_g (lw_at lw_m4 24 rfl) rfl
theorem q879 : (Jvm.Cond.methodLink "java/lang/StringLatin1" (92 : Nat) ({ cls := "java/lang/Math", name := "max", desc := "(II)I" } : Jvm.MethodName)) ∈ lw_all := lw_g (lw_at lw_m4 25 rfl) rfl
theorem q880 : (Jvm.Cond.methodLink "java/lang/StringLatin1" (38 : Nat) ({ cls := "java/lang/Math", name := "min", desc := "(II)I" } : Jvm.MethodName)) ∈ lw_all := lw_g (lw_at lw_m4 26 rfl) rfl
theorem q881 : (Jvm.Cond.methodLink "java/lang/StringLatin1" (95 : Nat) ({ cls := "java/lang/StringLatin1", name := "indexOfChar", desc := "([BIII)I" } : Jvm.MethodName)) ∈ lw_all := lw_g (lw_at lw_m4 27 rfl) rfl
theorem q882 : (Jvm.Cond.static ({ cls := "java/lang/StringLatin1", name := "indexOfChar", desc := "([BIII)I" } : Jvm.MethodName)) ∈ lw_all := lw_g (lw_at lw_m4 28 rfl) rfl
theorem q883 : (Jvm.Cond.code ({ cls := "java/lang/StringLatin1", name := "indexOfChar", desc := "([BIII)I" } : Jvm.MethodName) prog_30_method_23_code (6 : Nat) (Option.some Jvm.ClassFile.FieldType.int)) ∈ lw_all := lw_g (lw_at lw_m4 29 rfl) rfl
theorem q938 : (Jvm.Cond.static ({ cls := "java/lang/StringLatin1", name := "charAt", desc := "([BI)C" } : Jvm.MethodName)) ∈ lw_all := lw_g (lw_at lw_m4 84 rfl) rfl
theorem q939 : (Jvm.Cond.code ({ cls := "java/lang/StringLatin1", name := "charAt", desc := "([BI)C" } : Jvm.MethodName) prog_30_method_2_code (2 : Nat) (Option.some Jvm.ClassFile.FieldType.char)) ∈ lw_all := lw_g (lw_at lw_m4 85 rfl) rfl
theorem q940 : (Jvm.Cond.methodLink "java/lang/StringLatin1" (9 : Nat) ({ cls := "java/lang/String", name := "checkIndex", desc := "(II)V" } : Jvm.MethodName)) ∈ lw_all := lw_g (lw_at lw_m4 86 rfl) rfl
theorem q1124 : (Jvm.Cond.static ({ cls := "java/lang/StringLatin1", name := "canEncode", desc := "(C)Z" } : Jvm.MethodName)) ∈ lw_all := lw_g (lw_at lw_m5 30 rfl) rfl
theorem q1125 : (Jvm.Cond.code ({ cls := "java/lang/StringLatin1", name := "canEncode", desc := "(C)Z" } : Jvm.MethodName) prog_30_method_3_code (1 : Nat) (Option.some Jvm.ClassFile.FieldType.boolean)) ∈ lw_all := lw_g (lw_at lw_m5 31 rfl) rfl
theorem q1131 : (Jvm.Cond.static ({ cls := "java/lang/StringLatin1", name := "inflate", desc := "([BI[BII)V" } : Jvm.MethodName)) ∈ lw_all := lw_g (lw_at lw_m5 37 rfl) rfl
theorem q1132 : (Jvm.Cond.code ({ cls := "java/lang/StringLatin1", name := "inflate", desc := "([BI[BII)V" } : Jvm.MethodName) prog_30_method_50_code (5 : Nat) (Option.none : Option Jvm.ClassFile.FieldType)) ∈ lw_all := lw_g (lw_at lw_m5 38 rfl) rfl
theorem q1133 : (Jvm.Cond.methodLink "java/lang/StringLatin1" (240 : Nat) ({ cls := "java/lang/StringUTF16", name := "inflate", desc := "([BI[BII)V" } : Jvm.MethodName)) ∈ lw_all := lw_g (lw_at lw_m5 39 rfl) rfl

