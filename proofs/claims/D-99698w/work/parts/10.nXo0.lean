/-! TwinInk$Not -/
set_option maxRecDepth 100000
def RX10 : String := "TwinInk$Not"
def TX10 : u_T := fun k => match k with
  | _ => ("TwinInk$Not", "form", "LTwinInk$Form;", true)
def tyX10 : Nat → FieldType := fun k => match k with
  | _ => .object "TwinInk$Form"
abbrev wsX100 : List Cond := u_ws RX10 TX10 1
theorem nmX10 : ∀ a, a < 1 → ∀ b, b < 1 → a ≠ b → (TX10 a).2.1 ≠ (TX10 b).2.1 := by decide +kernel
theorem tyX10_ok : ∀ k, k < 1 → parseFieldDescriptor (TX10 k).2.2.1 = some (tyX10 k) := by decide +kernel
abbrev cX10_of : ByteArray := prog_4_method_2_code
def yX10_of : MethodName := ⟨RX10, "of", "([I)I"⟩
def dkwX10_of_0 : List UInt8 := [42, 180, 0, 7, 43, 185, 0, 13, 2, 0, 154, 0, 7, 4, 167, 0, 4, 3, 172]
abbrev dktX10_of_0 : List UInt8 := dkwX10_of_0 ++ []
theorem dksX10_of_0 : cX10_of.data.toList.drop 0 = dktX10_of_0 := by decide +kernel
theorem dX10_of_0 : decode cX10_of 0 = .ok (.aload_n 0, 1) := dk_42 (dk_at dksX10_of_0 0 rfl rfl)
theorem dX10_of_1 : decode cX10_of 1 = .ok (.getfield 7, 3) := dk_180 0 7 (dk_at dksX10_of_0 1 rfl rfl)
theorem dX10_of_4 : decode cX10_of 4 = .ok (.aload_n 1, 1) := dk_43 (dk_at dksX10_of_0 4 rfl rfl)
theorem dX10_of_5 : decode cX10_of 5 = .ok (.invokeinterface 13 2, 5) := by decide +kernel
theorem dX10_of_10 : decode cX10_of 10 = .ok (.ifCond .ne 7, 3) := dk_154 0 7 (dk_at dksX10_of_0 10 rfl rfl)
theorem dX10_of_13 : decode cX10_of 13 = .ok (.iconst 1, 1) := dk_4 (dk_at dksX10_of_0 13 rfl rfl)
theorem dX10_of_14 : decode cX10_of 14 = .ok (.goto 4, 3) := dk_167 0 4 (dk_at dksX10_of_0 14 rfl rfl)
theorem dX10_of_17 : decode cX10_of 17 = .ok (.iconst 0, 1) := dk_3 (dk_at dksX10_of_0 17 rfl rfl)
theorem dX10_of_18 : decode cX10_of 18 = .ok (.ireturn, 1) := dk_172 (dk_at dksX10_of_0 18 rfl rfl)
abbrev cX10_init : ByteArray := prog_4_method_1_code
def yX10_init : MethodName := ⟨RX10, "<init>", "(LTwinInk$Form;)V"⟩
def dkwX10_init_0 : List UInt8 := [42, 183, 0, 1, 42, 43, 181, 0, 7, 177]
abbrev dktX10_init_0 : List UInt8 := dkwX10_init_0 ++ []
theorem dksX10_init_0 : cX10_init.data.toList.drop 0 = dktX10_init_0 := by decide +kernel
theorem dX10_init_0 : decode cX10_init 0 = .ok (.aload_n 0, 1) := dk_42 (dk_at dksX10_init_0 0 rfl rfl)
theorem dX10_init_1 : decode cX10_init 1 = .ok (.invokespecial 1, 3) := dk_183 0 1 (dk_at dksX10_init_0 1 rfl rfl)
theorem dX10_init_4 : decode cX10_init 4 = .ok (.aload_n 0, 1) := dk_42 (dk_at dksX10_init_0 4 rfl rfl)
theorem dX10_init_5 : decode cX10_init 5 = .ok (.aload_n 1, 1) := dk_43 (dk_at dksX10_init_0 5 rfl rfl)
theorem dX10_init_6 : decode cX10_init 6 = .ok (.putfield 7, 3) := dk_181 0 7 (dk_at dksX10_init_0 6 rfl rfl)
theorem dX10_init_9 : decode cX10_init 9 = .ok (.return_, 1) := dk_177 (dk_at dksX10_init_0 9 rfl rfl)
theorem q163 : (Jvm.Cond.initialized "TwinInk$Not") ∈ lw_all := lw_g (lw_at lw_m1 29 rfl) rfl
theorem q394 : (Jvm.Cond.selects "TwinInk$Not" ({ cls := "java/lang/Object", name := "getClass", desc := "()Ljava/lang/Class;" } : Jvm.MethodName) ({ cls := "java/lang/Object", name := "getClass", desc := "()Ljava/lang/Class;" } : Jvm.MethodName)) ∈ lw_all := lw_g (lw_at lw_m2 20 rfl) rfl
theorem q536 : (Jvm.Cond.castable "TwinInk$Not" "TwinInk$Form") ∈ lw_tbl := lw_at lw_m2 162 rfl
theorem q537 : (Jvm.Cond.selects "TwinInk$Not" ({ cls := "TwinInk$Form", name := "of", desc := "([I)I" } : Jvm.MethodName) ({ cls := "TwinInk$Not", name := "of", desc := "([I)I" } : Jvm.MethodName)) ∈ lw_all := lw_g (lw_at lw_m2 163 rfl) rfl
theorem q538 : (Jvm.Cond.unhidden "TwinInk$Not" "of" "([I)I") ∈ lw_tbl := lw_at lw_m2 164 rfl
theorem q539 : (Jvm.Cond.instanceMethod ({ cls := "TwinInk$Not", name := "of", desc := "([I)I" } : Jvm.MethodName)) ∈ lw_all := lw_g (lw_at lw_m2 165 rfl) rfl
theorem q540 : (Jvm.Cond.publicMethod ({ cls := "TwinInk$Not", name := "of", desc := "([I)I" } : Jvm.MethodName)) ∈ lw_tbl := lw_at lw_m2 166 rfl
theorem q541 : (Jvm.Cond.code ({ cls := "TwinInk$Not", name := "of", desc := "([I)I" } : Jvm.MethodName) prog_4_method_2_code (2 : Nat) (Option.some Jvm.ClassFile.FieldType.int)) ∈ lw_all := lw_g (lw_at lw_m2 167 rfl) rfl
theorem q542 : (Jvm.Cond.interfaceEntry "TwinInk$Not" (13 : Nat)) ∈ lw_tbl := lw_at lw_m2 168 rfl
theorem q543 : (Jvm.Cond.methodLink "TwinInk$Not" (13 : Nat) ({ cls := "TwinInk$Form", name := "of", desc := "([I)I" } : Jvm.MethodName)) ∈ lw_all := lw_g (lw_at lw_m2 169 rfl) rfl
theorem q1156 : (Jvm.Cond.instantiable "TwinInk$Not" (1 : Nat)) ∈ lw_all := lw_g (lw_at lw_m5 62 rfl) rfl
theorem q1158 : (Jvm.Cond.instanceMethod ({ cls := "TwinInk$Not", name := "<init>", desc := "(LTwinInk$Form;)V" } : Jvm.MethodName)) ∈ lw_all := lw_g (lw_at lw_m5 64 rfl) rfl
theorem q1159 : (Jvm.Cond.code ({ cls := "TwinInk$Not", name := "<init>", desc := "(LTwinInk$Form;)V" } : Jvm.MethodName) prog_4_method_1_code (2 : Nat) (Option.none : Option Jvm.ClassFile.FieldType)) ∈ lw_all := lw_g (lw_at lw_m5 65 rfl) rfl
theorem q1160 : (Jvm.Cond.methodLink "TwinInk$Not" (1 : Nat) ({ cls := "java/lang/Object", name := "<init>", desc := "()V" } : Jvm.MethodName)) ∈ lw_all := lw_g (lw_at lw_m5 66 rfl) rfl
theorem q1161 : (Jvm.Cond.fieldLink "TwinInk$Not" (7 : Nat) "TwinInk$Not" "form" "LTwinInk$Form;") ∈ lw_all := lw_g (lw_at lw_m5 67 rfl) rfl
theorem q1162 : (Jvm.Cond.laysFinal "TwinInk$Not" "TwinInk$Not" "form" "LTwinInk$Form;") ∈ lw_all := lw_g (lw_at lw_m5 68 rfl) rfl
theorem q1163 : (Jvm.Cond.soleField "TwinInk$Not" "form") ∈ lw_all := lw_g (lw_at lw_m5 69 rfl) rfl
theorem q1164 : (Jvm.Cond.superclass "TwinInk$Not" "java/lang/Object") ∈ lw_all := lw_g (lw_at lw_m5 70 rfl) rfl
theorem q2369 : (Jvm.Cond.castable "TwinInk$Not" "java/lang/Object") ∈ lw_tbl := lw_at lw_m10 75 rfl
theorem in_X10 : ∀ w ∈ wsX100, w ∈ lw_all := lw_in wsX100 [1162] (by decide +kernel) (by decide +kernel)

/-! TwinInk$Office -/
set_option maxRecDepth 100000
def RX2 : String := "TwinInk$Office"
def TX2 : u_T := fun k => match k with
  | 0 => ("TwinInk$Office", "words", "Ljava/util/List;", true)
  | 1 => ("TwinInk$Office", "rounds", "Ljava/util/List;", true)
  | 2 => ("TwinInk$Office", "sheets", "I", false)
  | 3 => ("TwinInk$Office", "slack", "I", false)
  | 4 => ("TwinInk$Office", "lays", "LTwinInk$Form;", false)
  | _ => ("TwinInk$Office", "moulds", "LTwinInk$Form;", false)
def tyX2 : Nat → FieldType := fun k => match k with
  | 0 => .object "java/util/List"
  | 1 => .object "java/util/List"
  | 2 => .int
  | 3 => .int
  | 4 => .object "TwinInk$Form"
  | _ => .object "TwinInk$Form"
abbrev wsX20 : List Cond := u_ws RX2 TX2 6
theorem nmX2 : ∀ a, a < 6 → ∀ b, b < 6 → a ≠ b → (TX2 a).2.1 ≠ (TX2 b).2.1 := by decide +kernel
theorem tyX2_ok : ∀ k, k < 6 → parseFieldDescriptor (TX2 k).2.2.1 = some (tyX2 k) := by decide +kernel
abbrev cX2_init : ByteArray := prog_6_method_1_code
def yX2_init : MethodName := ⟨RX2, "<init>", "()V"⟩
def dkwX2_init_1 : List UInt8 := [181, 0, 16, 177]
abbrev dktX2_init_1 : List UInt8 := dkwX2_init_1 ++ []
def dkwX2_init_0 : List UInt8 := [42, 183, 0, 1, 42, 187, 0, 7, 89, 183, 0, 9, 181, 0, 10, 42, 187, 0, 7, 89, 183, 0, 9]
abbrev dktX2_init_0 : List UInt8 := dkwX2_init_0 ++ dktX2_init_1
theorem dksX2_init_0 : cX2_init.data.toList.drop 0 = dktX2_init_0 := by decide +kernel
theorem dksX2_init_1 : cX2_init.data.toList.drop 23 = dktX2_init_1 := dk_seg dksX2_init_0 23 rfl rfl
theorem dX2_init_0 : decode cX2_init 0 = .ok (.aload_n 0, 1) := dk_42 (dk_at dksX2_init_0 0 rfl rfl)
theorem dX2_init_1 : decode cX2_init 1 = .ok (.invokespecial 1, 3) := dk_183 0 1 (dk_at dksX2_init_0 1 rfl rfl)
theorem dX2_init_4 : decode cX2_init 4 = .ok (.aload_n 0, 1) := dk_42 (dk_at dksX2_init_0 4 rfl rfl)
theorem dX2_init_5 : decode cX2_init 5 = .ok (.new 7, 3) := dk_187 0 7 (dk_at dksX2_init_0 5 rfl rfl)
theorem dX2_init_8 : decode cX2_init 8 = .ok (.dup, 1) := dk_89 (dk_at dksX2_init_0 8 rfl rfl)
theorem dX2_init_9 : decode cX2_init 9 = .ok (.invokespecial 9, 3) := dk_183 0 9 (dk_at dksX2_init_0 9 rfl rfl)
theorem dX2_init_12 : decode cX2_init 12 = .ok (.putfield 10, 3) := dk_181 0 10 (dk_at dksX2_init_0 12 rfl rfl)
theorem dX2_init_15 : decode cX2_init 15 = .ok (.aload_n 0, 1) := dk_42 (dk_at dksX2_init_0 15 rfl rfl)
theorem dX2_init_16 : decode cX2_init 16 = .ok (.new 7, 3) := dk_187 0 7 (dk_at dksX2_init_0 16 rfl rfl)
theorem dX2_init_19 : decode cX2_init 19 = .ok (.dup, 1) := dk_89 (dk_at dksX2_init_0 19 rfl rfl)
theorem dX2_init_20 : decode cX2_init 20 = .ok (.invokespecial 9, 3) := dk_183 0 9 (dk_at dksX2_init_0 20 rfl rfl)
theorem dX2_init_23 : decode cX2_init 23 = .ok (.putfield 16, 3) := dk_181 0 16 (dk_at dksX2_init_1 0 rfl rfl)
theorem dX2_init_26 : decode cX2_init 26 = .ok (.return_, 1) := dk_177 (dk_at dksX2_init_1 3 rfl rfl)
abbrev cX2_clerks : ByteArray := prog_6_method_2_code
def yX2_clerks : MethodName := ⟨RX2, "clerks", "()I"⟩
def dkwX2_clerks_0 : List UInt8 := [42, 180, 0, 16, 185, 0, 19, 1, 0, 172]
abbrev dktX2_clerks_0 : List UInt8 := dkwX2_clerks_0 ++ []
theorem dksX2_clerks_0 : cX2_clerks.data.toList.drop 0 = dktX2_clerks_0 := by decide +kernel
theorem dX2_clerks_0 : decode cX2_clerks 0 = .ok (.aload_n 0, 1) := dk_42 (dk_at dksX2_clerks_0 0 rfl rfl)
theorem dX2_clerks_1 : decode cX2_clerks 1 = .ok (.getfield 16, 3) := dk_180 0 16 (dk_at dksX2_clerks_0 1 rfl rfl)
theorem dX2_clerks_4 : decode cX2_clerks 4 = .ok (.invokeinterface 19 1, 5) := by decide +kernel
theorem dX2_clerks_9 : decode cX2_clerks 9 = .ok (.ireturn, 1) := dk_172 (dk_at dksX2_clerks_0 9 rfl rfl)
abbrev cX2_town : ByteArray := prog_6_method_3_code
def yX2_town : MethodName := ⟨RX2, "town", "(II)I"⟩
def dkwX2_town_1 : List UInt8 := [192, 0, 20, 185, 0, 19, 1, 0, 112, 185, 0, 25, 2, 0, 192, 0, 29, 182, 0, 31, 172]
abbrev dktX2_town_1 : List UInt8 := dkwX2_town_1 ++ []
def dkwX2_town_0 : List UInt8 := [42, 180, 0, 16, 27, 185, 0, 25, 2, 0, 192, 0, 20, 28, 42, 180, 0, 16, 27, 185, 0, 25, 2, 0]
abbrev dktX2_town_0 : List UInt8 := dkwX2_town_0 ++ dktX2_town_1
theorem dksX2_town_0 : cX2_town.data.toList.drop 0 = dktX2_town_0 := by decide +kernel
theorem dksX2_town_1 : cX2_town.data.toList.drop 24 = dktX2_town_1 := dk_seg dksX2_town_0 24 rfl rfl
theorem dX2_town_0 : decode cX2_town 0 = .ok (.aload_n 0, 1) := dk_42 (dk_at dksX2_town_0 0 rfl rfl)
theorem dX2_town_1 : decode cX2_town 1 = .ok (.getfield 16, 3) := dk_180 0 16 (dk_at dksX2_town_0 1 rfl rfl)
theorem dX2_town_4 : decode cX2_town 4 = .ok (.iload_n 1, 1) := dk_27 (dk_at dksX2_town_0 4 rfl rfl)
theorem dX2_town_5 : decode cX2_town 5 = .ok (.invokeinterface 25 2, 5) := by decide +kernel
theorem dX2_town_10 : decode cX2_town 10 = .ok (.checkcast 20, 3) := dk_192 0 20 (dk_at dksX2_town_0 10 rfl rfl)
theorem dX2_town_13 : decode cX2_town 13 = .ok (.iload_n 2, 1) := dk_28 (dk_at dksX2_town_0 13 rfl rfl)
theorem dX2_town_14 : decode cX2_town 14 = .ok (.aload_n 0, 1) := dk_42 (dk_at dksX2_town_0 14 rfl rfl)
theorem dX2_town_15 : decode cX2_town 15 = .ok (.getfield 16, 3) := dk_180 0 16 (dk_at dksX2_town_0 15 rfl rfl)
theorem dX2_town_18 : decode cX2_town 18 = .ok (.iload_n 1, 1) := dk_27 (dk_at dksX2_town_0 18 rfl rfl)
theorem dX2_town_19 : decode cX2_town 19 = .ok (.invokeinterface 25 2, 5) := by decide +kernel
theorem dX2_town_24 : decode cX2_town 24 = .ok (.checkcast 20, 3) := dk_192 0 20 (dk_at dksX2_town_1 0 rfl rfl)
theorem dX2_town_27 : decode cX2_town 27 = .ok (.invokeinterface 19 1, 5) := by decide +kernel
theorem dX2_town_32 : decode cX2_town 32 = .ok (.irem, 1) := dk_112 (dk_at dksX2_town_1 8 rfl rfl)
theorem dX2_town_33 : decode cX2_town 33 = .ok (.invokeinterface 25 2, 5) := by decide +kernel
theorem dX2_town_38 : decode cX2_town 38 = .ok (.checkcast 29, 3) := dk_192 0 29 (dk_at dksX2_town_1 14 rfl rfl)
theorem dX2_town_41 : decode cX2_town 41 = .ok (.invokevirtual 31, 3) := dk_182 0 31 (dk_at dksX2_town_1 17 rfl rfl)
theorem dX2_town_44 : decode cX2_town 44 = .ok (.ireturn, 1) := dk_172 (dk_at dksX2_town_1 20 rfl rfl)
theorem q136 : (Jvm.Cond.initialized "TwinInk$Office") ∈ lw_all := lw_g (lw_at lw_m1 2 rfl) rfl
theorem q177 : (Jvm.Cond.instantiable "TwinInk$Office" (6 : Nat)) ∈ lw_all := lw_g (lw_at lw_m1 43 rfl) rfl
theorem q179 : (Jvm.Cond.instanceMethod ({ cls := "TwinInk$Office", name := "<init>", desc := "()V" } : Jvm.MethodName)) ∈ lw_all := lw_g (lw_at lw_m1 45 rfl) rfl
theorem q180 : (Jvm.Cond.code ({ cls := "TwinInk$Office", name := "<init>", desc := "()V" } : Jvm.MethodName) prog_6_method_1_code (1 : Nat) (Option.none : Option Jvm.ClassFile.FieldType)) ∈ lw_all := lw_g (lw_at lw_m1 46 rfl) rfl
theorem q181 : (Jvm.Cond.methodLink "TwinInk$Office" (1 : Nat) ({ cls := "java/lang/Object", name := "<init>", desc := "()V" } : Jvm.MethodName)) ∈ lw_all := lw_g (lw_at lw_m1 47 rfl) rfl
theorem q182 : (Jvm.Cond.classLink "TwinInk$Office" (7 : Nat) "java/util/ArrayList") ∈ lw_all := lw_g (lw_at lw_m1 48 rfl) rfl
theorem q184 : (Jvm.Cond.methodLink "TwinInk$Office" (9 : Nat) ({ cls := "java/util/ArrayList", name := "<init>", desc := "()V" } : Jvm.MethodName)) ∈ lw_all := lw_g (lw_at lw_m1 50 rfl) rfl
theorem q209 : (Jvm.Cond.fieldLink "TwinInk$Office" (10 : Nat) "TwinInk$Office" "words" "Ljava/util/List;") ∈ lw_all := lw_g (lw_at lw_m1 75 rfl) rfl
theorem q213 : (Jvm.Cond.fieldLink "TwinInk$Office" (16 : Nat) "TwinInk$Office" "rounds" "Ljava/util/List;") ∈ lw_all := lw_g (lw_at lw_m1 79 rfl) rfl
theorem q226 : (Jvm.Cond.laysFinal "TwinInk$Office" "TwinInk$Office" "words" "Ljava/util/List;") ∈ lw_all := lw_g (lw_at lw_m1 92 rfl) rfl
theorem q227 : (Jvm.Cond.soleField "TwinInk$Office" "words") ∈ lw_all := lw_g (lw_at lw_m1 93 rfl) rfl
theorem q228 : (Jvm.Cond.laysFinal "TwinInk$Office" "TwinInk$Office" "rounds" "Ljava/util/List;") ∈ lw_all := lw_g (lw_at lw_m1 94 rfl) rfl
theorem q229 : (Jvm.Cond.soleField "TwinInk$Office" "rounds") ∈ lw_all := lw_g (lw_at lw_m1 95 rfl) rfl
theorem q230 : (Jvm.Cond.lays "TwinInk$Office" "TwinInk$Office" "sheets" "I") ∈ lw_all := lw_g (lw_at lw_m1 96 rfl) rfl
theorem q231 : (Jvm.Cond.soleField "TwinInk$Office" "sheets") ∈ lw_all := lw_g (lw_at lw_m1 97 rfl) rfl
theorem q232 : (Jvm.Cond.lays "TwinInk$Office" "TwinInk$Office" "slack" "I") ∈ lw_all := lw_g (lw_at lw_m1 98 rfl) rfl
theorem q233 : (Jvm.Cond.soleField "TwinInk$Office" "slack") ∈ lw_all := lw_g (lw_at lw_m1 99 rfl) rfl
theorem q234 : (Jvm.Cond.lays "TwinInk$Office" "TwinInk$Office" "lays" "LTwinInk$Form;") ∈ lw_all := lw_g (lw_at lw_m1 100 rfl) rfl
theorem q235 : (Jvm.Cond.soleField "TwinInk$Office" "lays") ∈ lw_all := lw_g (lw_at lw_m1 101 rfl) rfl
theorem q236 : (Jvm.Cond.lays "TwinInk$Office" "TwinInk$Office" "moulds" "LTwinInk$Form;") ∈ lw_all := lw_g (lw_at lw_m1 102 rfl) rfl
theorem q237 : (Jvm.Cond.soleField "TwinInk$Office" "moulds") ∈ lw_all := lw_g (lw_at lw_m1 103 rfl) rfl
theorem q238 : (Jvm.Cond.superclass "TwinInk$Office" "java/lang/Object") ∈ lw_all := lw_g (lw_at lw_m1 104 rfl) rfl
theorem q396 : (Jvm.Cond.selects "TwinInk$Office" ({ cls := "java/lang/Object", name := "getClass", desc := "()Ljava/lang/Class;" } : Jvm.MethodName) ({ cls := "java/lang/Object", name := "getClass", desc := "()Ljava/lang/Class;" } : Jvm.MethodName)) ∈ lw_all := lw_g (lw_at lw_m2 22 rfl) rfl
theorem q464 : (Jvm.Cond.instanceMethod ({ cls := "TwinInk$Office", name := "clerks", desc := "()I" } : Jvm.MethodName)) ∈ lw_all := lw_g (lw_at lw_m2 90 rfl) rfl
theorem q465 : (Jvm.Cond.selects "TwinInk$Office" ({ cls := "TwinInk$Office", name := "clerks", desc := "()I" } : Jvm.MethodName) ({ cls := "TwinInk$Office", name := "clerks", desc := "()I" } : Jvm.MethodName)) ∈ lw_all := lw_g (lw_at lw_m2 91 rfl) rfl
theorem q466 : (Jvm.Cond.code ({ cls := "TwinInk$Office", name := "clerks", desc := "()I" } : Jvm.MethodName) prog_6_method_2_code (1 : Nat) (Option.some Jvm.ClassFile.FieldType.int)) ∈ lw_all := lw_g (lw_at lw_m2 92 rfl) rfl
theorem q467 : (Jvm.Cond.interfaceEntry "TwinInk$Office" (19 : Nat)) ∈ lw_tbl := lw_at lw_m2 93 rfl
theorem q468 : (Jvm.Cond.methodLink "TwinInk$Office" (19 : Nat) ({ cls := "java/util/List", name := "size", desc := "()I" } : Jvm.MethodName)) ∈ lw_all := lw_g (lw_at lw_m2 94 rfl) rfl
theorem q474 : (Jvm.Cond.instanceMethod ({ cls := "TwinInk$Office", name := "town", desc := "(II)I" } : Jvm.MethodName)) ∈ lw_all := lw_g (lw_at lw_m2 100 rfl) rfl
theorem q475 : (Jvm.Cond.selects "TwinInk$Office" ({ cls := "TwinInk$Office", name := "town", desc := "(II)I" } : Jvm.MethodName) ({ cls := "TwinInk$Office", name := "town", desc := "(II)I" } : Jvm.MethodName)) ∈ lw_all := lw_g (lw_at lw_m2 101 rfl) rfl
theorem q476 : (Jvm.Cond.code ({ cls := "TwinInk$Office", name := "town", desc := "(II)I" } : Jvm.MethodName) prog_6_method_3_code (3 : Nat) (Option.some Jvm.ClassFile.FieldType.int)) ∈ lw_all := lw_g (lw_at lw_m2 102 rfl) rfl
theorem q477 : (Jvm.Cond.interfaceEntry "TwinInk$Office" (25 : Nat)) ∈ lw_tbl := lw_at lw_m2 103 rfl
theorem q478 : (Jvm.Cond.methodLink "TwinInk$Office" (25 : Nat) ({ cls := "java/util/List", name := "get", desc := "(I)Ljava/lang/Object;" } : Jvm.MethodName)) ∈ lw_all := lw_g (lw_at lw_m2 104 rfl) rfl
theorem q490 : (Jvm.Cond.classLink "TwinInk$Office" (20 : Nat) "java/util/List") ∈ lw_all := lw_g (lw_at lw_m2 116 rfl) rfl
theorem q491 : (Jvm.Cond.classLink "TwinInk$Office" (29 : Nat) "java/lang/Integer") ∈ lw_all := lw_g (lw_at lw_m2 117 rfl) rfl
theorem q492 : (Jvm.Cond.methodLink "TwinInk$Office" (31 : Nat) ({ cls := "java/lang/Integer", name := "intValue", desc := "()I" } : Jvm.MethodName)) ∈ lw_all := lw_g (lw_at lw_m2 118 rfl) rfl
theorem q2358 : (Jvm.Cond.castable "TwinInk$Office" "java/lang/Object") ∈ lw_tbl := lw_at lw_m10 64 rfl
theorem in_X2 : ∀ w ∈ wsX20, w ∈ lw_all := lw_in wsX20 [226, 228, 230, 232, 234, 236] (by decide +kernel) (by decide +kernel)

/-! TwinInk$Service -/
set_option maxRecDepth 100000
def RX3 : String := "TwinInk$Service"
def TX3 : u_T := fun k => match k with
  | 0 => ("TwinInk$Service", "left", "[I", true)
  | 1 => ("TwinInk$Service", "edge", "[I", true)
  | 2 => ("TwinInk$Service", "at", "[I", true)
  | 3 => ("TwinInk$Service", "knows", "[I", true)
  | 4 => ("TwinInk$Service", "day", "I", false)
  | _ => ("TwinInk$Service", "this$0", "LTwinInk;", true)
def tyX3 : Nat → FieldType := fun k => match k with
  | 0 => .array .int
  | 1 => .array .int
  | 2 => .array .int
  | 3 => .array .int
  | 4 => .int
  | _ => .object "TwinInk"
abbrev wsX30 : List Cond := u_ws RX3 TX3 6
theorem nmX3 : ∀ a, a < 6 → ∀ b, b < 6 → a ≠ b → (TX3 a).2.1 ≠ (TX3 b).2.1 := by decide +kernel
theorem tyX3_ok : ∀ k, k < 6 → parseFieldDescriptor (TX3 k).2.2.1 = some (tyX3 k) := by decide +kernel
abbrev cX3_init : ByteArray := prog_8_method_1_code
def yX3_init : MethodName := ⟨RX3, "<init>", "(LTwinInk;)V"⟩
def dkwX3_init_1 : List UInt8 := [181, 0, 19, 42, 16, 9, 188, 10, 181, 0, 22, 42, 16, 6, 188, 10, 181, 0, 25, 177]
abbrev dktX3_init_1 : List UInt8 := dkwX3_init_1 ++ []
def dkwX3_init_0 : List UInt8 := [42, 43, 181, 0, 3, 42, 183, 0, 9, 42, 16, 9, 188, 10, 181, 0, 15, 42, 16, 9, 188, 10]
abbrev dktX3_init_0 : List UInt8 := dkwX3_init_0 ++ dktX3_init_1
theorem dksX3_init_0 : cX3_init.data.toList.drop 0 = dktX3_init_0 := by decide +kernel
theorem dksX3_init_1 : cX3_init.data.toList.drop 22 = dktX3_init_1 := dk_seg dksX3_init_0 22 rfl rfl
theorem dX3_init_0 : decode cX3_init 0 = .ok (.aload_n 0, 1) := dk_42 (dk_at dksX3_init_0 0 rfl rfl)
theorem dX3_init_1 : decode cX3_init 1 = .ok (.aload_n 1, 1) := dk_43 (dk_at dksX3_init_0 1 rfl rfl)
theorem dX3_init_2 : decode cX3_init 2 = .ok (.putfield 3, 3) := dk_181 0 3 (dk_at dksX3_init_0 2 rfl rfl)
theorem dX3_init_5 : decode cX3_init 5 = .ok (.aload_n 0, 1) := dk_42 (dk_at dksX3_init_0 5 rfl rfl)
theorem dX3_init_6 : decode cX3_init 6 = .ok (.invokespecial 9, 3) := dk_183 0 9 (dk_at dksX3_init_0 6 rfl rfl)
theorem dX3_init_9 : decode cX3_init 9 = .ok (.aload_n 0, 1) := dk_42 (dk_at dksX3_init_0 9 rfl rfl)
theorem dX3_init_10 : decode cX3_init 10 = .ok (.bipush 9, 2) := dk_16 9 (dk_at dksX3_init_0 10 rfl rfl)
theorem dX3_init_12 : decode cX3_init 12 = .ok (.newarray .int, 2) := dk_188_10 (dk_at dksX3_init_0 12 rfl rfl)
theorem dX3_init_14 : decode cX3_init 14 = .ok (.putfield 15, 3) := dk_181 0 15 (dk_at dksX3_init_0 14 rfl rfl)
theorem dX3_init_17 : decode cX3_init 17 = .ok (.aload_n 0, 1) := dk_42 (dk_at dksX3_init_0 17 rfl rfl)
theorem dX3_init_18 : decode cX3_init 18 = .ok (.bipush 9, 2) := dk_16 9 (dk_at dksX3_init_0 18 rfl rfl)
theorem dX3_init_20 : decode cX3_init 20 = .ok (.newarray .int, 2) := dk_188_10 (dk_at dksX3_init_0 20 rfl rfl)
theorem dX3_init_22 : decode cX3_init 22 = .ok (.putfield 19, 3) := dk_181 0 19 (dk_at dksX3_init_1 0 rfl rfl)
theorem dX3_init_25 : decode cX3_init 25 = .ok (.aload_n 0, 1) := dk_42 (dk_at dksX3_init_1 3 rfl rfl)
theorem dX3_init_26 : decode cX3_init 26 = .ok (.bipush 9, 2) := dk_16 9 (dk_at dksX3_init_1 4 rfl rfl)
theorem dX3_init_28 : decode cX3_init 28 = .ok (.newarray .int, 2) := dk_188_10 (dk_at dksX3_init_1 6 rfl rfl)
theorem dX3_init_30 : decode cX3_init 30 = .ok (.putfield 22, 3) := dk_181 0 22 (dk_at dksX3_init_1 8 rfl rfl)
theorem dX3_init_33 : decode cX3_init 33 = .ok (.aload_n 0, 1) := dk_42 (dk_at dksX3_init_1 11 rfl rfl)
theorem dX3_init_34 : decode cX3_init 34 = .ok (.bipush 6, 2) := dk_16 6 (dk_at dksX3_init_1 12 rfl rfl)
theorem dX3_init_36 : decode cX3_init 36 = .ok (.newarray .int, 2) := dk_188_10 (dk_at dksX3_init_1 14 rfl rfl)
theorem dX3_init_38 : decode cX3_init 38 = .ok (.putfield 25, 3) := dk_181 0 25 (dk_at dksX3_init_1 16 rfl rfl)
theorem dX3_init_41 : decode cX3_init 41 = .ok (.return_, 1) := dk_177 (dk_at dksX3_init_1 19 rfl rfl)
abbrev cX3_copy : ByteArray := prog_8_method_2_code
def yX3_copy : MethodName := ⟨RX3, "copy", "()LTwinInk$Service;"⟩
def dkwX3_copy_0 : List UInt8 := [187, 0, 4, 89, 42, 180, 0, 3, 183, 0, 28, 42, 182, 0, 31, 176]
abbrev dktX3_copy_0 : List UInt8 := dkwX3_copy_0 ++ []
theorem dksX3_copy_0 : cX3_copy.data.toList.drop 0 = dktX3_copy_0 := by decide +kernel
theorem dX3_copy_0 : decode cX3_copy 0 = .ok (.new 4, 3) := dk_187 0 4 (dk_at dksX3_copy_0 0 rfl rfl)
theorem dX3_copy_3 : decode cX3_copy 3 = .ok (.dup, 1) := dk_89 (dk_at dksX3_copy_0 3 rfl rfl)
theorem dX3_copy_4 : decode cX3_copy 4 = .ok (.aload_n 0, 1) := dk_42 (dk_at dksX3_copy_0 4 rfl rfl)
theorem dX3_copy_5 : decode cX3_copy 5 = .ok (.getfield 3, 3) := dk_180 0 3 (dk_at dksX3_copy_0 5 rfl rfl)
theorem dX3_copy_8 : decode cX3_copy 8 = .ok (.invokespecial 28, 3) := dk_183 0 28 (dk_at dksX3_copy_0 8 rfl rfl)
theorem dX3_copy_11 : decode cX3_copy 11 = .ok (.aload_n 0, 1) := dk_42 (dk_at dksX3_copy_0 11 rfl rfl)
theorem dX3_copy_12 : decode cX3_copy 12 = .ok (.invokevirtual 31, 3) := dk_182 0 31 (dk_at dksX3_copy_0 12 rfl rfl)
theorem dX3_copy_15 : decode cX3_copy 15 = .ok (.areturn, 1) := dk_176 (dk_at dksX3_copy_0 15 rfl rfl)
abbrev cX3_be : ByteArray := prog_8_method_3_code
def yX3_be : MethodName := ⟨RX3, "be", "(LTwinInk$Service;)LTwinInk$Service;"⟩
def dkwX3_be_3 : List UInt8 := [132, 2, 1, 167, 255, 235, 42, 43, 180, 0, 35, 181, 0, 35, 42, 176]
abbrev dktX3_be_3 : List UInt8 := dkwX3_be_3 ++ []
def dkwX3_be_2 : List UInt8 := [167, 255, 211, 3, 61, 28, 16, 6, 162, 0, 21, 42, 180, 0, 25, 28, 43, 180, 0, 25, 28, 46, 79]
abbrev dktX3_be_2 : List UInt8 := dkwX3_be_2 ++ dktX3_be_3
def dkwX3_be_1 : List UInt8 := [28, 43, 180, 0, 19, 28, 46, 79, 42, 180, 0, 22, 28, 43, 180, 0, 22, 28, 46, 79, 132, 2, 1]
abbrev dktX3_be_1 : List UInt8 := dkwX3_be_1 ++ dktX3_be_2
def dkwX3_be_0 : List UInt8 := [3, 61, 28, 16, 9, 162, 0, 45, 42, 180, 0, 15, 28, 43, 180, 0, 15, 28, 46, 79, 42, 180, 0, 19]
abbrev dktX3_be_0 : List UInt8 := dkwX3_be_0 ++ dktX3_be_1
theorem dksX3_be_0 : cX3_be.data.toList.drop 0 = dktX3_be_0 := by decide +kernel
theorem dksX3_be_1 : cX3_be.data.toList.drop 24 = dktX3_be_1 := dk_seg dksX3_be_0 24 rfl rfl
theorem dksX3_be_2 : cX3_be.data.toList.drop 47 = dktX3_be_2 := dk_seg dksX3_be_1 23 rfl rfl
theorem dksX3_be_3 : cX3_be.data.toList.drop 70 = dktX3_be_3 := dk_seg dksX3_be_2 23 rfl rfl
theorem dX3_be_0 : decode cX3_be 0 = .ok (.iconst 0, 1) := dk_3 (dk_at dksX3_be_0 0 rfl rfl)
theorem dX3_be_1 : decode cX3_be 1 = .ok (.istore_n 2, 1) := dk_61 (dk_at dksX3_be_0 1 rfl rfl)
theorem dX3_be_2 : decode cX3_be 2 = .ok (.iload_n 2, 1) := dk_28 (dk_at dksX3_be_0 2 rfl rfl)
theorem dX3_be_3 : decode cX3_be 3 = .ok (.bipush 9, 2) := dk_16 9 (dk_at dksX3_be_0 3 rfl rfl)
theorem dX3_be_5 : decode cX3_be 5 = .ok (.if_icmp .ge 45, 3) := dk_162 0 45 (dk_at dksX3_be_0 5 rfl rfl)
theorem dX3_be_8 : decode cX3_be 8 = .ok (.aload_n 0, 1) := dk_42 (dk_at dksX3_be_0 8 rfl rfl)
theorem dX3_be_9 : decode cX3_be 9 = .ok (.getfield 15, 3) := dk_180 0 15 (dk_at dksX3_be_0 9 rfl rfl)
theorem dX3_be_12 : decode cX3_be 12 = .ok (.iload_n 2, 1) := dk_28 (dk_at dksX3_be_0 12 rfl rfl)
theorem dX3_be_13 : decode cX3_be 13 = .ok (.aload_n 1, 1) := dk_43 (dk_at dksX3_be_0 13 rfl rfl)
theorem dX3_be_14 : decode cX3_be 14 = .ok (.getfield 15, 3) := dk_180 0 15 (dk_at dksX3_be_0 14 rfl rfl)
theorem dX3_be_17 : decode cX3_be 17 = .ok (.iload_n 2, 1) := dk_28 (dk_at dksX3_be_0 17 rfl rfl)
theorem dX3_be_18 : decode cX3_be 18 = .ok (.iaload, 1) := dk_46 (dk_at dksX3_be_0 18 rfl rfl)
theorem dX3_be_19 : decode cX3_be 19 = .ok (.iastore, 1) := dk_79 (dk_at dksX3_be_0 19 rfl rfl)
theorem dX3_be_20 : decode cX3_be 20 = .ok (.aload_n 0, 1) := dk_42 (dk_at dksX3_be_0 20 rfl rfl)
theorem dX3_be_21 : decode cX3_be 21 = .ok (.getfield 19, 3) := dk_180 0 19 (dk_at dksX3_be_0 21 rfl rfl)
theorem dX3_be_24 : decode cX3_be 24 = .ok (.iload_n 2, 1) := dk_28 (dk_at dksX3_be_1 0 rfl rfl)
theorem dX3_be_25 : decode cX3_be 25 = .ok (.aload_n 1, 1) := dk_43 (dk_at dksX3_be_1 1 rfl rfl)
theorem dX3_be_26 : decode cX3_be 26 = .ok (.getfield 19, 3) := dk_180 0 19 (dk_at dksX3_be_1 2 rfl rfl)
theorem dX3_be_29 : decode cX3_be 29 = .ok (.iload_n 2, 1) := dk_28 (dk_at dksX3_be_1 5 rfl rfl)
theorem dX3_be_30 : decode cX3_be 30 = .ok (.iaload, 1) := dk_46 (dk_at dksX3_be_1 6 rfl rfl)
theorem dX3_be_31 : decode cX3_be 31 = .ok (.iastore, 1) := dk_79 (dk_at dksX3_be_1 7 rfl rfl)
theorem dX3_be_32 : decode cX3_be 32 = .ok (.aload_n 0, 1) := dk_42 (dk_at dksX3_be_1 8 rfl rfl)
theorem dX3_be_33 : decode cX3_be 33 = .ok (.getfield 22, 3) := dk_180 0 22 (dk_at dksX3_be_1 9 rfl rfl)
theorem dX3_be_36 : decode cX3_be 36 = .ok (.iload_n 2, 1) := dk_28 (dk_at dksX3_be_1 12 rfl rfl)
theorem dX3_be_37 : decode cX3_be 37 = .ok (.aload_n 1, 1) := dk_43 (dk_at dksX3_be_1 13 rfl rfl)
theorem dX3_be_38 : decode cX3_be 38 = .ok (.getfield 22, 3) := dk_180 0 22 (dk_at dksX3_be_1 14 rfl rfl)
theorem dX3_be_41 : decode cX3_be 41 = .ok (.iload_n 2, 1) := dk_28 (dk_at dksX3_be_1 17 rfl rfl)
theorem dX3_be_42 : decode cX3_be 42 = .ok (.iaload, 1) := dk_46 (dk_at dksX3_be_1 18 rfl rfl)
theorem dX3_be_43 : decode cX3_be 43 = .ok (.iastore, 1) := dk_79 (dk_at dksX3_be_1 19 rfl rfl)
theorem dX3_be_44 : decode cX3_be 44 = .ok (.iinc 2 1, 3) := dk_132 2 1 (dk_at dksX3_be_1 20 rfl rfl)
theorem dX3_be_47 : decode cX3_be 47 = .ok (.goto (-45), 3) := dk_167 255 211 (dk_at dksX3_be_2 0 rfl rfl)
theorem dX3_be_50 : decode cX3_be 50 = .ok (.iconst 0, 1) := dk_3 (dk_at dksX3_be_2 3 rfl rfl)
theorem dX3_be_51 : decode cX3_be 51 = .ok (.istore_n 2, 1) := dk_61 (dk_at dksX3_be_2 4 rfl rfl)
theorem dX3_be_52 : decode cX3_be 52 = .ok (.iload_n 2, 1) := dk_28 (dk_at dksX3_be_2 5 rfl rfl)
theorem dX3_be_53 : decode cX3_be 53 = .ok (.bipush 6, 2) := dk_16 6 (dk_at dksX3_be_2 6 rfl rfl)
theorem dX3_be_55 : decode cX3_be 55 = .ok (.if_icmp .ge 21, 3) := dk_162 0 21 (dk_at dksX3_be_2 8 rfl rfl)
theorem dX3_be_58 : decode cX3_be 58 = .ok (.aload_n 0, 1) := dk_42 (dk_at dksX3_be_2 11 rfl rfl)
theorem dX3_be_59 : decode cX3_be 59 = .ok (.getfield 25, 3) := dk_180 0 25 (dk_at dksX3_be_2 12 rfl rfl)
theorem dX3_be_62 : decode cX3_be 62 = .ok (.iload_n 2, 1) := dk_28 (dk_at dksX3_be_2 15 rfl rfl)
theorem dX3_be_63 : decode cX3_be 63 = .ok (.aload_n 1, 1) := dk_43 (dk_at dksX3_be_2 16 rfl rfl)
theorem dX3_be_64 : decode cX3_be 64 = .ok (.getfield 25, 3) := dk_180 0 25 (dk_at dksX3_be_2 17 rfl rfl)
theorem dX3_be_67 : decode cX3_be 67 = .ok (.iload_n 2, 1) := dk_28 (dk_at dksX3_be_2 20 rfl rfl)
theorem dX3_be_68 : decode cX3_be 68 = .ok (.iaload, 1) := dk_46 (dk_at dksX3_be_2 21 rfl rfl)
theorem dX3_be_69 : decode cX3_be 69 = .ok (.iastore, 1) := dk_79 (dk_at dksX3_be_2 22 rfl rfl)
theorem dX3_be_70 : decode cX3_be 70 = .ok (.iinc 2 1, 3) := dk_132 2 1 (dk_at dksX3_be_3 0 rfl rfl)
theorem dX3_be_73 : decode cX3_be 73 = .ok (.goto (-21), 3) := dk_167 255 235 (dk_at dksX3_be_3 3 rfl rfl)
theorem dX3_be_76 : decode cX3_be 76 = .ok (.aload_n 0, 1) := dk_42 (dk_at dksX3_be_3 6 rfl rfl)
theorem dX3_be_77 : decode cX3_be 77 = .ok (.aload_n 1, 1) := dk_43 (dk_at dksX3_be_3 7 rfl rfl)
theorem dX3_be_78 : decode cX3_be 78 = .ok (.getfield 35, 3) := dk_180 0 35 (dk_at dksX3_be_3 8 rfl rfl)
theorem dX3_be_81 : decode cX3_be 81 = .ok (.putfield 35, 3) := dk_181 0 35 (dk_at dksX3_be_3 11 rfl rfl)
theorem dX3_be_84 : decode cX3_be 84 = .ok (.aload_n 0, 1) := dk_42 (dk_at dksX3_be_3 14 rfl rfl)
theorem dX3_be_85 : decode cX3_be 85 = .ok (.areturn, 1) := dk_176 (dk_at dksX3_be_3 15 rfl rfl)
abbrev cX3_after : ByteArray := prog_8_method_23_code
def yX3_after : MethodName := ⟨RX3, "after", "(I)LTwinInk$Service;"⟩
def dkwX3_after_0 : List UInt8 := [3, 61, 28, 27, 162, 0, 14, 42, 182, 0, 142, 87, 132, 2, 1, 167, 255, 243, 42, 176]
abbrev dktX3_after_0 : List UInt8 := dkwX3_after_0 ++ []
theorem dksX3_after_0 : cX3_after.data.toList.drop 0 = dktX3_after_0 := by decide +kernel
theorem dX3_after_0 : decode cX3_after 0 = .ok (.iconst 0, 1) := dk_3 (dk_at dksX3_after_0 0 rfl rfl)
theorem dX3_after_1 : decode cX3_after 1 = .ok (.istore_n 2, 1) := dk_61 (dk_at dksX3_after_0 1 rfl rfl)
theorem dX3_after_2 : decode cX3_after 2 = .ok (.iload_n 2, 1) := dk_28 (dk_at dksX3_after_0 2 rfl rfl)
theorem dX3_after_3 : decode cX3_after 3 = .ok (.iload_n 1, 1) := dk_27 (dk_at dksX3_after_0 3 rfl rfl)
theorem dX3_after_4 : decode cX3_after 4 = .ok (.if_icmp .ge 14, 3) := dk_162 0 14 (dk_at dksX3_after_0 4 rfl rfl)
theorem dX3_after_7 : decode cX3_after 7 = .ok (.aload_n 0, 1) := dk_42 (dk_at dksX3_after_0 7 rfl rfl)
theorem dX3_after_8 : decode cX3_after 8 = .ok (.invokevirtual 142, 3) := dk_182 0 142 (dk_at dksX3_after_0 8 rfl rfl)
theorem dX3_after_11 : decode cX3_after 11 = .ok (.pop, 1) := dk_87 (dk_at dksX3_after_0 11 rfl rfl)
theorem dX3_after_12 : decode cX3_after 12 = .ok (.iinc 2 1, 3) := dk_132 2 1 (dk_at dksX3_after_0 12 rfl rfl)
theorem dX3_after_15 : decode cX3_after 15 = .ok (.goto (-13), 3) := dk_167 255 243 (dk_at dksX3_after_0 15 rfl rfl)
theorem dX3_after_18 : decode cX3_after 18 = .ok (.aload_n 0, 1) := dk_42 (dk_at dksX3_after_0 18 rfl rfl)
theorem dX3_after_19 : decode cX3_after 19 = .ok (.areturn, 1) := dk_176 (dk_at dksX3_after_0 19 rfl rfl)
abbrev cX3_pass : ByteArray := prog_8_method_22_code
def yX3_pass : MethodName := ⟨RX3, "pass", "()LTwinInk$Service;"⟩
def dkwX3_pass_3 : List UInt8 := [89, 180, 0, 35, 4, 96, 181, 0, 35, 42, 176]
abbrev dktX3_pass_3 : List UInt8 := dkwX3_pass_3 ++ []
def dkwX3_pass_2 : List UInt8 := [180, 0, 3, 180, 0, 39, 180, 0, 67, 162, 0, 14, 42, 27, 182, 0, 138, 132, 1, 1, 167, 255, 234, 42]
abbrev dktX3_pass_2 : List UInt8 := dkwX3_pass_2 ++ dktX3_pass_3
def dkwX3_pass_1 : List UInt8 := [153, 0, 13, 42, 28, 42, 27, 182, 0, 135, 182, 0, 129, 132, 1, 1, 167, 255, 219, 3, 60, 27, 42]
abbrev dktX3_pass_1 : List UInt8 := dkwX3_pass_1 ++ dktX3_pass_2
def dkwX3_pass_0 : List UInt8 := [3, 60, 27, 7, 162, 0, 38, 42, 27, 182, 0, 126, 61, 28, 153, 0, 22, 42, 27, 28, 182, 0, 133]
abbrev dktX3_pass_0 : List UInt8 := dkwX3_pass_0 ++ dktX3_pass_1
theorem dksX3_pass_0 : cX3_pass.data.toList.drop 0 = dktX3_pass_0 := by decide +kernel
theorem dksX3_pass_1 : cX3_pass.data.toList.drop 23 = dktX3_pass_1 := dk_seg dksX3_pass_0 23 rfl rfl
theorem dksX3_pass_2 : cX3_pass.data.toList.drop 46 = dktX3_pass_2 := dk_seg dksX3_pass_1 23 rfl rfl
theorem dksX3_pass_3 : cX3_pass.data.toList.drop 70 = dktX3_pass_3 := dk_seg dksX3_pass_2 24 rfl rfl
theorem dX3_pass_0 : decode cX3_pass 0 = .ok (.iconst 0, 1) := dk_3 (dk_at dksX3_pass_0 0 rfl rfl)
theorem dX3_pass_1 : decode cX3_pass 1 = .ok (.istore_n 1, 1) := dk_60 (dk_at dksX3_pass_0 1 rfl rfl)
theorem dX3_pass_2 : decode cX3_pass 2 = .ok (.iload_n 1, 1) := dk_27 (dk_at dksX3_pass_0 2 rfl rfl)
theorem dX3_pass_3 : decode cX3_pass 3 = .ok (.iconst 4, 1) := dk_7 (dk_at dksX3_pass_0 3 rfl rfl)
theorem dX3_pass_4 : decode cX3_pass 4 = .ok (.if_icmp .ge 38, 3) := dk_162 0 38 (dk_at dksX3_pass_0 4 rfl rfl)
theorem dX3_pass_7 : decode cX3_pass 7 = .ok (.aload_n 0, 1) := dk_42 (dk_at dksX3_pass_0 7 rfl rfl)
theorem dX3_pass_8 : decode cX3_pass 8 = .ok (.iload_n 1, 1) := dk_27 (dk_at dksX3_pass_0 8 rfl rfl)
theorem dX3_pass_9 : decode cX3_pass 9 = .ok (.invokevirtual 126, 3) := dk_182 0 126 (dk_at dksX3_pass_0 9 rfl rfl)
theorem dX3_pass_12 : decode cX3_pass 12 = .ok (.istore_n 2, 1) := dk_61 (dk_at dksX3_pass_0 12 rfl rfl)
theorem dX3_pass_13 : decode cX3_pass 13 = .ok (.iload_n 2, 1) := dk_28 (dk_at dksX3_pass_0 13 rfl rfl)
theorem dX3_pass_14 : decode cX3_pass 14 = .ok (.ifCond .eq 22, 3) := dk_153 0 22 (dk_at dksX3_pass_0 14 rfl rfl)
theorem dX3_pass_17 : decode cX3_pass 17 = .ok (.aload_n 0, 1) := dk_42 (dk_at dksX3_pass_0 17 rfl rfl)
theorem dX3_pass_18 : decode cX3_pass 18 = .ok (.iload_n 1, 1) := dk_27 (dk_at dksX3_pass_0 18 rfl rfl)
theorem dX3_pass_19 : decode cX3_pass 19 = .ok (.iload_n 2, 1) := dk_28 (dk_at dksX3_pass_0 19 rfl rfl)
theorem dX3_pass_20 : decode cX3_pass 20 = .ok (.invokevirtual 133, 3) := dk_182 0 133 (dk_at dksX3_pass_0 20 rfl rfl)
theorem dX3_pass_23 : decode cX3_pass 23 = .ok (.ifCond .eq 13, 3) := dk_153 0 13 (dk_at dksX3_pass_1 0 rfl rfl)
theorem dX3_pass_26 : decode cX3_pass 26 = .ok (.aload_n 0, 1) := dk_42 (dk_at dksX3_pass_1 3 rfl rfl)
theorem dX3_pass_27 : decode cX3_pass 27 = .ok (.iload_n 2, 1) := dk_28 (dk_at dksX3_pass_1 4 rfl rfl)
theorem dX3_pass_28 : decode cX3_pass 28 = .ok (.aload_n 0, 1) := dk_42 (dk_at dksX3_pass_1 5 rfl rfl)
theorem dX3_pass_29 : decode cX3_pass 29 = .ok (.iload_n 1, 1) := dk_27 (dk_at dksX3_pass_1 6 rfl rfl)
theorem dX3_pass_30 : decode cX3_pass 30 = .ok (.invokevirtual 135, 3) := dk_182 0 135 (dk_at dksX3_pass_1 7 rfl rfl)
theorem dX3_pass_33 : decode cX3_pass 33 = .ok (.invokevirtual 129, 3) := dk_182 0 129 (dk_at dksX3_pass_1 10 rfl rfl)
theorem dX3_pass_36 : decode cX3_pass 36 = .ok (.iinc 1 1, 3) := dk_132 1 1 (dk_at dksX3_pass_1 13 rfl rfl)
theorem dX3_pass_39 : decode cX3_pass 39 = .ok (.goto (-37), 3) := dk_167 255 219 (dk_at dksX3_pass_1 16 rfl rfl)
theorem dX3_pass_42 : decode cX3_pass 42 = .ok (.iconst 0, 1) := dk_3 (dk_at dksX3_pass_1 19 rfl rfl)
theorem dX3_pass_43 : decode cX3_pass 43 = .ok (.istore_n 1, 1) := dk_60 (dk_at dksX3_pass_1 20 rfl rfl)
theorem dX3_pass_44 : decode cX3_pass 44 = .ok (.iload_n 1, 1) := dk_27 (dk_at dksX3_pass_1 21 rfl rfl)
theorem dX3_pass_45 : decode cX3_pass 45 = .ok (.aload_n 0, 1) := dk_42 (dk_at dksX3_pass_1 22 rfl rfl)
theorem dX3_pass_46 : decode cX3_pass 46 = .ok (.getfield 3, 3) := dk_180 0 3 (dk_at dksX3_pass_2 0 rfl rfl)
theorem dX3_pass_49 : decode cX3_pass 49 = .ok (.getfield 39, 3) := dk_180 0 39 (dk_at dksX3_pass_2 3 rfl rfl)
theorem dX3_pass_52 : decode cX3_pass 52 = .ok (.getfield 67, 3) := dk_180 0 67 (dk_at dksX3_pass_2 6 rfl rfl)
theorem dX3_pass_55 : decode cX3_pass 55 = .ok (.if_icmp .ge 14, 3) := dk_162 0 14 (dk_at dksX3_pass_2 9 rfl rfl)
theorem dX3_pass_58 : decode cX3_pass 58 = .ok (.aload_n 0, 1) := dk_42 (dk_at dksX3_pass_2 12 rfl rfl)
theorem dX3_pass_59 : decode cX3_pass 59 = .ok (.iload_n 1, 1) := dk_27 (dk_at dksX3_pass_2 13 rfl rfl)
theorem dX3_pass_60 : decode cX3_pass 60 = .ok (.invokevirtual 138, 3) := dk_182 0 138 (dk_at dksX3_pass_2 14 rfl rfl)
theorem dX3_pass_63 : decode cX3_pass 63 = .ok (.iinc 1 1, 3) := dk_132 1 1 (dk_at dksX3_pass_2 17 rfl rfl)
theorem dX3_pass_66 : decode cX3_pass 66 = .ok (.goto (-22), 3) := dk_167 255 234 (dk_at dksX3_pass_2 20 rfl rfl)
theorem dX3_pass_69 : decode cX3_pass 69 = .ok (.aload_n 0, 1) := dk_42 (dk_at dksX3_pass_2 23 rfl rfl)
theorem dX3_pass_70 : decode cX3_pass 70 = .ok (.dup, 1) := dk_89 (dk_at dksX3_pass_3 0 rfl rfl)
theorem dX3_pass_71 : decode cX3_pass 71 = .ok (.getfield 35, 3) := dk_180 0 35 (dk_at dksX3_pass_3 1 rfl rfl)
theorem dX3_pass_74 : decode cX3_pass 74 = .ok (.iconst 1, 1) := dk_4 (dk_at dksX3_pass_3 4 rfl rfl)
theorem dX3_pass_75 : decode cX3_pass 75 = .ok (.iadd, 1) := dk_96 (dk_at dksX3_pass_3 5 rfl rfl)
theorem dX3_pass_76 : decode cX3_pass 76 = .ok (.putfield 35, 3) := dk_181 0 35 (dk_at dksX3_pass_3 6 rfl rfl)
theorem dX3_pass_79 : decode cX3_pass 79 = .ok (.aload_n 0, 1) := dk_42 (dk_at dksX3_pass_3 9 rfl rfl)
theorem dX3_pass_80 : decode cX3_pass 80 = .ok (.areturn, 1) := dk_176 (dk_at dksX3_pass_3 10 rfl rfl)
abbrev cX3_clerksIn : ByteArray := prog_8_method_13_code
def yX3_clerksIn : MethodName := ⟨RX3, "clerksIn", "(I)I"⟩
def dkwX3_clerksIn_1 : List UInt8 := [160, 0, 9, 28, 4, 29, 120, 128, 61, 132, 3, 1, 167, 255, 224, 28, 172]
abbrev dktX3_clerksIn_1 : List UInt8 := dkwX3_clerksIn_1 ++ []
def dkwX3_clerksIn_0 : List UInt8 := [3, 61, 3, 62, 29, 42, 180, 0, 3, 180, 0, 39, 182, 0, 77, 162, 0, 24, 42, 29, 182, 0, 49, 27]
abbrev dktX3_clerksIn_0 : List UInt8 := dkwX3_clerksIn_0 ++ dktX3_clerksIn_1
theorem dksX3_clerksIn_0 : cX3_clerksIn.data.toList.drop 0 = dktX3_clerksIn_0 := by decide +kernel
theorem dksX3_clerksIn_1 : cX3_clerksIn.data.toList.drop 24 = dktX3_clerksIn_1 := dk_seg dksX3_clerksIn_0 24 rfl rfl
theorem dX3_clerksIn_0 : decode cX3_clerksIn 0 = .ok (.iconst 0, 1) := dk_3 (dk_at dksX3_clerksIn_0 0 rfl rfl)
theorem dX3_clerksIn_1 : decode cX3_clerksIn 1 = .ok (.istore_n 2, 1) := dk_61 (dk_at dksX3_clerksIn_0 1 rfl rfl)
theorem dX3_clerksIn_2 : decode cX3_clerksIn 2 = .ok (.iconst 0, 1) := dk_3 (dk_at dksX3_clerksIn_0 2 rfl rfl)
theorem dX3_clerksIn_3 : decode cX3_clerksIn 3 = .ok (.istore_n 3, 1) := dk_62 (dk_at dksX3_clerksIn_0 3 rfl rfl)
theorem dX3_clerksIn_4 : decode cX3_clerksIn 4 = .ok (.iload_n 3, 1) := dk_29 (dk_at dksX3_clerksIn_0 4 rfl rfl)
theorem dX3_clerksIn_5 : decode cX3_clerksIn 5 = .ok (.aload_n 0, 1) := dk_42 (dk_at dksX3_clerksIn_0 5 rfl rfl)
theorem dX3_clerksIn_6 : decode cX3_clerksIn 6 = .ok (.getfield 3, 3) := dk_180 0 3 (dk_at dksX3_clerksIn_0 6 rfl rfl)
theorem dX3_clerksIn_9 : decode cX3_clerksIn 9 = .ok (.getfield 39, 3) := dk_180 0 39 (dk_at dksX3_clerksIn_0 9 rfl rfl)
theorem dX3_clerksIn_12 : decode cX3_clerksIn 12 = .ok (.invokevirtual 77, 3) := dk_182 0 77 (dk_at dksX3_clerksIn_0 12 rfl rfl)
theorem dX3_clerksIn_15 : decode cX3_clerksIn 15 = .ok (.if_icmp .ge 24, 3) := dk_162 0 24 (dk_at dksX3_clerksIn_0 15 rfl rfl)
theorem dX3_clerksIn_18 : decode cX3_clerksIn 18 = .ok (.aload_n 0, 1) := dk_42 (dk_at dksX3_clerksIn_0 18 rfl rfl)
theorem dX3_clerksIn_19 : decode cX3_clerksIn 19 = .ok (.iload_n 3, 1) := dk_29 (dk_at dksX3_clerksIn_0 19 rfl rfl)
theorem dX3_clerksIn_20 : decode cX3_clerksIn 20 = .ok (.invokevirtual 49, 3) := dk_182 0 49 (dk_at dksX3_clerksIn_0 20 rfl rfl)
theorem dX3_clerksIn_23 : decode cX3_clerksIn 23 = .ok (.iload_n 1, 1) := dk_27 (dk_at dksX3_clerksIn_0 23 rfl rfl)
theorem dX3_clerksIn_24 : decode cX3_clerksIn 24 = .ok (.if_icmp .ne 9, 3) := dk_160 0 9 (dk_at dksX3_clerksIn_1 0 rfl rfl)
theorem dX3_clerksIn_27 : decode cX3_clerksIn 27 = .ok (.iload_n 2, 1) := dk_28 (dk_at dksX3_clerksIn_1 3 rfl rfl)
theorem dX3_clerksIn_28 : decode cX3_clerksIn 28 = .ok (.iconst 1, 1) := dk_4 (dk_at dksX3_clerksIn_1 4 rfl rfl)
theorem dX3_clerksIn_29 : decode cX3_clerksIn 29 = .ok (.iload_n 3, 1) := dk_29 (dk_at dksX3_clerksIn_1 5 rfl rfl)
theorem dX3_clerksIn_30 : decode cX3_clerksIn 30 = .ok (.ishl, 1) := dk_120 (dk_at dksX3_clerksIn_1 6 rfl rfl)
theorem dX3_clerksIn_31 : decode cX3_clerksIn 31 = .ok (.ior, 1) := dk_128 (dk_at dksX3_clerksIn_1 7 rfl rfl)
theorem dX3_clerksIn_32 : decode cX3_clerksIn 32 = .ok (.istore_n 2, 1) := dk_61 (dk_at dksX3_clerksIn_1 8 rfl rfl)
theorem dX3_clerksIn_33 : decode cX3_clerksIn 33 = .ok (.iinc 3 1, 3) := dk_132 3 1 (dk_at dksX3_clerksIn_1 9 rfl rfl)
theorem dX3_clerksIn_36 : decode cX3_clerksIn 36 = .ok (.goto (-32), 3) := dk_167 255 224 (dk_at dksX3_clerksIn_1 12 rfl rfl)
theorem dX3_clerksIn_39 : decode cX3_clerksIn 39 = .ok (.iload_n 2, 1) := dk_28 (dk_at dksX3_clerksIn_1 15 rfl rfl)
theorem dX3_clerksIn_40 : decode cX3_clerksIn 40 = .ok (.ireturn, 1) := dk_172 (dk_at dksX3_clerksIn_1 16 rfl rfl)
abbrev cX3_town : ByteArray := prog_8_method_4_code
def yX3_town : MethodName := ⟨RX3, "town", "(I)I"⟩
def dkwX3_town_0 : List UInt8 := [42, 180, 0, 3, 180, 0, 39, 27, 42, 180, 0, 35, 182, 0, 43, 172]
abbrev dktX3_town_0 : List UInt8 := dkwX3_town_0 ++ []
theorem dksX3_town_0 : cX3_town.data.toList.drop 0 = dktX3_town_0 := by decide +kernel
theorem dX3_town_0 : decode cX3_town 0 = .ok (.aload_n 0, 1) := dk_42 (dk_at dksX3_town_0 0 rfl rfl)
theorem dX3_town_1 : decode cX3_town 1 = .ok (.getfield 3, 3) := dk_180 0 3 (dk_at dksX3_town_0 1 rfl rfl)
theorem dX3_town_4 : decode cX3_town 4 = .ok (.getfield 39, 3) := dk_180 0 39 (dk_at dksX3_town_0 4 rfl rfl)
theorem dX3_town_7 : decode cX3_town 7 = .ok (.iload_n 1, 1) := dk_27 (dk_at dksX3_town_0 7 rfl rfl)
theorem dX3_town_8 : decode cX3_town 8 = .ok (.aload_n 0, 1) := dk_42 (dk_at dksX3_town_0 8 rfl rfl)
theorem dX3_town_9 : decode cX3_town 9 = .ok (.getfield 35, 3) := dk_180 0 35 (dk_at dksX3_town_0 9 rfl rfl)
theorem dX3_town_12 : decode cX3_town 12 = .ok (.invokevirtual 43, 3) := dk_182 0 43 (dk_at dksX3_town_0 12 rfl rfl)
theorem dX3_town_15 : decode cX3_town 15 = .ok (.ireturn, 1) := dk_172 (dk_at dksX3_town_0 15 rfl rfl)
abbrev cX3_lays : ByteArray := prog_8_method_18_code
def yX3_lays : MethodName := ⟨RX3, "lays", "(II)Z"⟩
def dkwX3_lays_4 : List UInt8 := [180, 0, 107, 42, 180, 0, 3, 180, 0, 111, 185, 0, 114, 2, 0, 158, 0, 7, 4, 167, 0, 4, 3, 172]
abbrev dktX3_lays_4 : List UInt8 := dkwX3_lays_4 ++ []
def dkwX3_lays_3 : List UInt8 := [184, 0, 52, 79, 42, 180, 0, 3, 180, 0, 111, 7, 42, 180, 0, 35, 79, 42, 180, 0, 3, 180, 0, 39]
abbrev dktX3_lays_3 : List UInt8 := dkwX3_lays_3 ++ dktX3_lays_4
def dkwX3_lays_2 : List UInt8 := [180, 0, 111, 5, 28, 184, 0, 52, 79, 42, 180, 0, 3, 180, 0, 111, 6, 42, 28, 182, 0, 104]
abbrev dktX3_lays_2 : List UInt8 := dkwX3_lays_2 ++ dktX3_lays_3
def dkwX3_lays_1 : List UInt8 := [79, 42, 180, 0, 3, 180, 0, 111, 4, 42, 27, 182, 0, 98, 184, 0, 52, 79, 42, 180, 0, 3]
abbrev dktX3_lays_1 : List UInt8 := dkwX3_lays_1 ++ dktX3_lays_2
def dkwX3_lays_0 : List UInt8 := [42, 180, 0, 3, 180, 0, 39, 180, 0, 107, 199, 0, 5, 4, 172, 42, 180, 0, 3, 180, 0, 111, 3, 27]
abbrev dktX3_lays_0 : List UInt8 := dkwX3_lays_0 ++ dktX3_lays_1
theorem dksX3_lays_0 : cX3_lays.data.toList.drop 0 = dktX3_lays_0 := by decide +kernel
theorem dksX3_lays_1 : cX3_lays.data.toList.drop 24 = dktX3_lays_1 := dk_seg dksX3_lays_0 24 rfl rfl
theorem dksX3_lays_2 : cX3_lays.data.toList.drop 46 = dktX3_lays_2 := dk_seg dksX3_lays_1 22 rfl rfl
theorem dksX3_lays_3 : cX3_lays.data.toList.drop 68 = dktX3_lays_3 := dk_seg dksX3_lays_2 22 rfl rfl
theorem dksX3_lays_4 : cX3_lays.data.toList.drop 92 = dktX3_lays_4 := dk_seg dksX3_lays_3 24 rfl rfl
theorem dX3_lays_0 : decode cX3_lays 0 = .ok (.aload_n 0, 1) := dk_42 (dk_at dksX3_lays_0 0 rfl rfl)
theorem dX3_lays_1 : decode cX3_lays 1 = .ok (.getfield 3, 3) := dk_180 0 3 (dk_at dksX3_lays_0 1 rfl rfl)
theorem dX3_lays_4 : decode cX3_lays 4 = .ok (.getfield 39, 3) := dk_180 0 39 (dk_at dksX3_lays_0 4 rfl rfl)
theorem dX3_lays_7 : decode cX3_lays 7 = .ok (.getfield 107, 3) := dk_180 0 107 (dk_at dksX3_lays_0 7 rfl rfl)
theorem dX3_lays_10 : decode cX3_lays 10 = .ok (.ifnonnull 5, 3) := dk_199 0 5 (dk_at dksX3_lays_0 10 rfl rfl)
theorem dX3_lays_13 : decode cX3_lays 13 = .ok (.iconst 1, 1) := dk_4 (dk_at dksX3_lays_0 13 rfl rfl)
theorem dX3_lays_14 : decode cX3_lays 14 = .ok (.ireturn, 1) := dk_172 (dk_at dksX3_lays_0 14 rfl rfl)
theorem dX3_lays_15 : decode cX3_lays 15 = .ok (.aload_n 0, 1) := dk_42 (dk_at dksX3_lays_0 15 rfl rfl)
theorem dX3_lays_16 : decode cX3_lays 16 = .ok (.getfield 3, 3) := dk_180 0 3 (dk_at dksX3_lays_0 16 rfl rfl)
theorem dX3_lays_19 : decode cX3_lays 19 = .ok (.getfield 111, 3) := dk_180 0 111 (dk_at dksX3_lays_0 19 rfl rfl)
theorem dX3_lays_22 : decode cX3_lays 22 = .ok (.iconst 0, 1) := dk_3 (dk_at dksX3_lays_0 22 rfl rfl)
theorem dX3_lays_23 : decode cX3_lays 23 = .ok (.iload_n 1, 1) := dk_27 (dk_at dksX3_lays_0 23 rfl rfl)
theorem dX3_lays_24 : decode cX3_lays 24 = .ok (.iastore, 1) := dk_79 (dk_at dksX3_lays_1 0 rfl rfl)
theorem dX3_lays_25 : decode cX3_lays 25 = .ok (.aload_n 0, 1) := dk_42 (dk_at dksX3_lays_1 1 rfl rfl)
theorem dX3_lays_26 : decode cX3_lays 26 = .ok (.getfield 3, 3) := dk_180 0 3 (dk_at dksX3_lays_1 2 rfl rfl)
theorem dX3_lays_29 : decode cX3_lays 29 = .ok (.getfield 111, 3) := dk_180 0 111 (dk_at dksX3_lays_1 5 rfl rfl)
theorem dX3_lays_32 : decode cX3_lays 32 = .ok (.iconst 1, 1) := dk_4 (dk_at dksX3_lays_1 8 rfl rfl)
theorem dX3_lays_33 : decode cX3_lays 33 = .ok (.aload_n 0, 1) := dk_42 (dk_at dksX3_lays_1 9 rfl rfl)
theorem dX3_lays_34 : decode cX3_lays 34 = .ok (.iload_n 1, 1) := dk_27 (dk_at dksX3_lays_1 10 rfl rfl)
theorem dX3_lays_35 : decode cX3_lays 35 = .ok (.invokevirtual 98, 3) := dk_182 0 98 (dk_at dksX3_lays_1 11 rfl rfl)
theorem dX3_lays_38 : decode cX3_lays 38 = .ok (.invokestatic 52, 3) := dk_184 0 52 (dk_at dksX3_lays_1 14 rfl rfl)
theorem dX3_lays_41 : decode cX3_lays 41 = .ok (.iastore, 1) := dk_79 (dk_at dksX3_lays_1 17 rfl rfl)
theorem dX3_lays_42 : decode cX3_lays 42 = .ok (.aload_n 0, 1) := dk_42 (dk_at dksX3_lays_1 18 rfl rfl)
theorem dX3_lays_43 : decode cX3_lays 43 = .ok (.getfield 3, 3) := dk_180 0 3 (dk_at dksX3_lays_1 19 rfl rfl)
theorem dX3_lays_46 : decode cX3_lays 46 = .ok (.getfield 111, 3) := dk_180 0 111 (dk_at dksX3_lays_2 0 rfl rfl)
theorem dX3_lays_49 : decode cX3_lays 49 = .ok (.iconst 2, 1) := dk_5 (dk_at dksX3_lays_2 3 rfl rfl)
theorem dX3_lays_50 : decode cX3_lays 50 = .ok (.iload_n 2, 1) := dk_28 (dk_at dksX3_lays_2 4 rfl rfl)
theorem dX3_lays_51 : decode cX3_lays 51 = .ok (.invokestatic 52, 3) := dk_184 0 52 (dk_at dksX3_lays_2 5 rfl rfl)
theorem dX3_lays_54 : decode cX3_lays 54 = .ok (.iastore, 1) := dk_79 (dk_at dksX3_lays_2 8 rfl rfl)
theorem dX3_lays_55 : decode cX3_lays 55 = .ok (.aload_n 0, 1) := dk_42 (dk_at dksX3_lays_2 9 rfl rfl)
theorem dX3_lays_56 : decode cX3_lays 56 = .ok (.getfield 3, 3) := dk_180 0 3 (dk_at dksX3_lays_2 10 rfl rfl)
theorem dX3_lays_59 : decode cX3_lays 59 = .ok (.getfield 111, 3) := dk_180 0 111 (dk_at dksX3_lays_2 13 rfl rfl)
theorem dX3_lays_62 : decode cX3_lays 62 = .ok (.iconst 3, 1) := dk_6 (dk_at dksX3_lays_2 16 rfl rfl)
theorem dX3_lays_63 : decode cX3_lays 63 = .ok (.aload_n 0, 1) := dk_42 (dk_at dksX3_lays_2 17 rfl rfl)
theorem dX3_lays_64 : decode cX3_lays 64 = .ok (.iload_n 2, 1) := dk_28 (dk_at dksX3_lays_2 18 rfl rfl)
theorem dX3_lays_65 : decode cX3_lays 65 = .ok (.invokevirtual 104, 3) := dk_182 0 104 (dk_at dksX3_lays_2 19 rfl rfl)
theorem dX3_lays_68 : decode cX3_lays 68 = .ok (.invokestatic 52, 3) := dk_184 0 52 (dk_at dksX3_lays_3 0 rfl rfl)
theorem dX3_lays_71 : decode cX3_lays 71 = .ok (.iastore, 1) := dk_79 (dk_at dksX3_lays_3 3 rfl rfl)
theorem dX3_lays_72 : decode cX3_lays 72 = .ok (.aload_n 0, 1) := dk_42 (dk_at dksX3_lays_3 4 rfl rfl)
theorem dX3_lays_73 : decode cX3_lays 73 = .ok (.getfield 3, 3) := dk_180 0 3 (dk_at dksX3_lays_3 5 rfl rfl)
theorem dX3_lays_76 : decode cX3_lays 76 = .ok (.getfield 111, 3) := dk_180 0 111 (dk_at dksX3_lays_3 8 rfl rfl)
theorem dX3_lays_79 : decode cX3_lays 79 = .ok (.iconst 4, 1) := dk_7 (dk_at dksX3_lays_3 11 rfl rfl)
theorem dX3_lays_80 : decode cX3_lays 80 = .ok (.aload_n 0, 1) := dk_42 (dk_at dksX3_lays_3 12 rfl rfl)
theorem dX3_lays_81 : decode cX3_lays 81 = .ok (.getfield 35, 3) := dk_180 0 35 (dk_at dksX3_lays_3 13 rfl rfl)
theorem dX3_lays_84 : decode cX3_lays 84 = .ok (.iastore, 1) := dk_79 (dk_at dksX3_lays_3 16 rfl rfl)
theorem dX3_lays_85 : decode cX3_lays 85 = .ok (.aload_n 0, 1) := dk_42 (dk_at dksX3_lays_3 17 rfl rfl)
theorem dX3_lays_86 : decode cX3_lays 86 = .ok (.getfield 3, 3) := dk_180 0 3 (dk_at dksX3_lays_3 18 rfl rfl)
theorem dX3_lays_89 : decode cX3_lays 89 = .ok (.getfield 39, 3) := dk_180 0 39 (dk_at dksX3_lays_3 21 rfl rfl)
theorem dX3_lays_92 : decode cX3_lays 92 = .ok (.getfield 107, 3) := dk_180 0 107 (dk_at dksX3_lays_4 0 rfl rfl)
theorem dX3_lays_95 : decode cX3_lays 95 = .ok (.aload_n 0, 1) := dk_42 (dk_at dksX3_lays_4 3 rfl rfl)
theorem dX3_lays_96 : decode cX3_lays 96 = .ok (.getfield 3, 3) := dk_180 0 3 (dk_at dksX3_lays_4 4 rfl rfl)
theorem dX3_lays_99 : decode cX3_lays 99 = .ok (.getfield 111, 3) := dk_180 0 111 (dk_at dksX3_lays_4 7 rfl rfl)
theorem dX3_lays_102 : decode cX3_lays 102 = .ok (.invokeinterface 114 2, 5) := by decide +kernel
theorem dX3_lays_107 : decode cX3_lays 107 = .ok (.ifCond .le 7, 3) := dk_158 0 7 (dk_at dksX3_lays_4 15 rfl rfl)
theorem dX3_lays_110 : decode cX3_lays 110 = .ok (.iconst 1, 1) := dk_4 (dk_at dksX3_lays_4 18 rfl rfl)
theorem dX3_lays_111 : decode cX3_lays 111 = .ok (.goto 4, 3) := dk_167 0 4 (dk_at dksX3_lays_4 19 rfl rfl)
theorem dX3_lays_114 : decode cX3_lays 114 = .ok (.iconst 0, 1) := dk_3 (dk_at dksX3_lays_4 22 rfl rfl)
theorem dX3_lays_115 : decode cX3_lays 115 = .ok (.ireturn, 1) := dk_172 (dk_at dksX3_lays_4 23 rfl rfl)
abbrev cX3_sheetsIn : ByteArray := prog_8_method_12_code
def yX3_sheetsIn : MethodName := ⟨RX3, "sheetsIn", "(I)I"⟩
def dkwX3_sheetsIn_1 : List UInt8 := [160, 0, 9, 28, 4, 29, 120, 128, 61, 132, 3, 1, 167, 255, 224, 28, 172]
abbrev dktX3_sheetsIn_1 : List UInt8 := dkwX3_sheetsIn_1 ++ []
def dkwX3_sheetsIn_0 : List UInt8 := [3, 61, 3, 62, 29, 42, 180, 0, 3, 180, 0, 39, 180, 0, 67, 162, 0, 24, 42, 29, 182, 0, 74, 27]
abbrev dktX3_sheetsIn_0 : List UInt8 := dkwX3_sheetsIn_0 ++ dktX3_sheetsIn_1
theorem dksX3_sheetsIn_0 : cX3_sheetsIn.data.toList.drop 0 = dktX3_sheetsIn_0 := by decide +kernel
theorem dksX3_sheetsIn_1 : cX3_sheetsIn.data.toList.drop 24 = dktX3_sheetsIn_1 := dk_seg dksX3_sheetsIn_0 24 rfl rfl
theorem dX3_sheetsIn_0 : decode cX3_sheetsIn 0 = .ok (.iconst 0, 1) := dk_3 (dk_at dksX3_sheetsIn_0 0 rfl rfl)
theorem dX3_sheetsIn_1 : decode cX3_sheetsIn 1 = .ok (.istore_n 2, 1) := dk_61 (dk_at dksX3_sheetsIn_0 1 rfl rfl)
theorem dX3_sheetsIn_2 : decode cX3_sheetsIn 2 = .ok (.iconst 0, 1) := dk_3 (dk_at dksX3_sheetsIn_0 2 rfl rfl)
theorem dX3_sheetsIn_3 : decode cX3_sheetsIn 3 = .ok (.istore_n 3, 1) := dk_62 (dk_at dksX3_sheetsIn_0 3 rfl rfl)
theorem dX3_sheetsIn_4 : decode cX3_sheetsIn 4 = .ok (.iload_n 3, 1) := dk_29 (dk_at dksX3_sheetsIn_0 4 rfl rfl)
theorem dX3_sheetsIn_5 : decode cX3_sheetsIn 5 = .ok (.aload_n 0, 1) := dk_42 (dk_at dksX3_sheetsIn_0 5 rfl rfl)
theorem dX3_sheetsIn_6 : decode cX3_sheetsIn 6 = .ok (.getfield 3, 3) := dk_180 0 3 (dk_at dksX3_sheetsIn_0 6 rfl rfl)
theorem dX3_sheetsIn_9 : decode cX3_sheetsIn 9 = .ok (.getfield 39, 3) := dk_180 0 39 (dk_at dksX3_sheetsIn_0 9 rfl rfl)
theorem dX3_sheetsIn_12 : decode cX3_sheetsIn 12 = .ok (.getfield 67, 3) := dk_180 0 67 (dk_at dksX3_sheetsIn_0 12 rfl rfl)
theorem dX3_sheetsIn_15 : decode cX3_sheetsIn 15 = .ok (.if_icmp .ge 24, 3) := dk_162 0 24 (dk_at dksX3_sheetsIn_0 15 rfl rfl)
theorem dX3_sheetsIn_18 : decode cX3_sheetsIn 18 = .ok (.aload_n 0, 1) := dk_42 (dk_at dksX3_sheetsIn_0 18 rfl rfl)
theorem dX3_sheetsIn_19 : decode cX3_sheetsIn 19 = .ok (.iload_n 3, 1) := dk_29 (dk_at dksX3_sheetsIn_0 19 rfl rfl)
theorem dX3_sheetsIn_20 : decode cX3_sheetsIn 20 = .ok (.invokevirtual 74, 3) := dk_182 0 74 (dk_at dksX3_sheetsIn_0 20 rfl rfl)
theorem dX3_sheetsIn_23 : decode cX3_sheetsIn 23 = .ok (.iload_n 1, 1) := dk_27 (dk_at dksX3_sheetsIn_0 23 rfl rfl)
theorem dX3_sheetsIn_24 : decode cX3_sheetsIn 24 = .ok (.if_icmp .ne 9, 3) := dk_160 0 9 (dk_at dksX3_sheetsIn_1 0 rfl rfl)
theorem dX3_sheetsIn_27 : decode cX3_sheetsIn 27 = .ok (.iload_n 2, 1) := dk_28 (dk_at dksX3_sheetsIn_1 3 rfl rfl)
theorem dX3_sheetsIn_28 : decode cX3_sheetsIn 28 = .ok (.iconst 1, 1) := dk_4 (dk_at dksX3_sheetsIn_1 4 rfl rfl)
theorem dX3_sheetsIn_29 : decode cX3_sheetsIn 29 = .ok (.iload_n 3, 1) := dk_29 (dk_at dksX3_sheetsIn_1 5 rfl rfl)
theorem dX3_sheetsIn_30 : decode cX3_sheetsIn 30 = .ok (.ishl, 1) := dk_120 (dk_at dksX3_sheetsIn_1 6 rfl rfl)
theorem dX3_sheetsIn_31 : decode cX3_sheetsIn 31 = .ok (.ior, 1) := dk_128 (dk_at dksX3_sheetsIn_1 7 rfl rfl)
theorem dX3_sheetsIn_32 : decode cX3_sheetsIn 32 = .ok (.istore_n 2, 1) := dk_61 (dk_at dksX3_sheetsIn_1 8 rfl rfl)
theorem dX3_sheetsIn_33 : decode cX3_sheetsIn 33 = .ok (.iinc 3 1, 3) := dk_132 3 1 (dk_at dksX3_sheetsIn_1 9 rfl rfl)
theorem dX3_sheetsIn_36 : decode cX3_sheetsIn 36 = .ok (.goto (-32), 3) := dk_167 255 224 (dk_at dksX3_sheetsIn_1 12 rfl rfl)
theorem dX3_sheetsIn_39 : decode cX3_sheetsIn 39 = .ok (.iload_n 2, 1) := dk_28 (dk_at dksX3_sheetsIn_1 15 rfl rfl)
theorem dX3_sheetsIn_40 : decode cX3_sheetsIn 40 = .ok (.ireturn, 1) := dk_172 (dk_at dksX3_sheetsIn_1 16 rfl rfl)
abbrev cX3_where : ByteArray := prog_8_method_7_code
def yX3_where : MethodName := ⟨RX3, "where", "(I)I"⟩
def dkwX3_where_1 : List UInt8 := [167, 0, 9, 42, 180, 0, 22, 27, 46, 172]
abbrev dktX3_where_1 : List UInt8 := dkwX3_where_1 ++ []
def dkwX3_where_0 : List UInt8 := [42, 180, 0, 22, 27, 46, 7, 161, 0, 18, 42, 42, 180, 0, 22, 27, 46, 7, 100, 182, 0, 49]
abbrev dktX3_where_0 : List UInt8 := dkwX3_where_0 ++ dktX3_where_1
theorem dksX3_where_0 : cX3_where.data.toList.drop 0 = dktX3_where_0 := by decide +kernel
theorem dksX3_where_1 : cX3_where.data.toList.drop 22 = dktX3_where_1 := dk_seg dksX3_where_0 22 rfl rfl
theorem dX3_where_0 : decode cX3_where 0 = .ok (.aload_n 0, 1) := dk_42 (dk_at dksX3_where_0 0 rfl rfl)
theorem dX3_where_1 : decode cX3_where 1 = .ok (.getfield 22, 3) := dk_180 0 22 (dk_at dksX3_where_0 1 rfl rfl)
theorem dX3_where_4 : decode cX3_where 4 = .ok (.iload_n 1, 1) := dk_27 (dk_at dksX3_where_0 4 rfl rfl)
theorem dX3_where_5 : decode cX3_where 5 = .ok (.iaload, 1) := dk_46 (dk_at dksX3_where_0 5 rfl rfl)
theorem dX3_where_6 : decode cX3_where 6 = .ok (.iconst 4, 1) := dk_7 (dk_at dksX3_where_0 6 rfl rfl)
theorem dX3_where_7 : decode cX3_where 7 = .ok (.if_icmp .lt 18, 3) := dk_161 0 18 (dk_at dksX3_where_0 7 rfl rfl)
theorem dX3_where_10 : decode cX3_where 10 = .ok (.aload_n 0, 1) := dk_42 (dk_at dksX3_where_0 10 rfl rfl)
theorem dX3_where_11 : decode cX3_where 11 = .ok (.aload_n 0, 1) := dk_42 (dk_at dksX3_where_0 11 rfl rfl)
theorem dX3_where_12 : decode cX3_where 12 = .ok (.getfield 22, 3) := dk_180 0 22 (dk_at dksX3_where_0 12 rfl rfl)
theorem dX3_where_15 : decode cX3_where 15 = .ok (.iload_n 1, 1) := dk_27 (dk_at dksX3_where_0 15 rfl rfl)
theorem dX3_where_16 : decode cX3_where 16 = .ok (.iaload, 1) := dk_46 (dk_at dksX3_where_0 16 rfl rfl)
theorem dX3_where_17 : decode cX3_where 17 = .ok (.iconst 4, 1) := dk_7 (dk_at dksX3_where_0 17 rfl rfl)
theorem dX3_where_18 : decode cX3_where 18 = .ok (.isub, 1) := dk_100 (dk_at dksX3_where_0 18 rfl rfl)
theorem dX3_where_19 : decode cX3_where 19 = .ok (.invokevirtual 49, 3) := dk_182 0 49 (dk_at dksX3_where_0 19 rfl rfl)
theorem dX3_where_22 : decode cX3_where 22 = .ok (.goto 9, 3) := dk_167 0 9 (dk_at dksX3_where_1 0 rfl rfl)
theorem dX3_where_25 : decode cX3_where 25 = .ok (.aload_n 0, 1) := dk_42 (dk_at dksX3_where_1 3 rfl rfl)
theorem dX3_where_26 : decode cX3_where 26 = .ok (.getfield 22, 3) := dk_180 0 22 (dk_at dksX3_where_1 4 rfl rfl)
theorem dX3_where_29 : decode cX3_where 29 = .ok (.iload_n 1, 1) := dk_27 (dk_at dksX3_where_1 7 rfl rfl)
theorem dX3_where_30 : decode cX3_where 30 = .ok (.iaload, 1) := dk_46 (dk_at dksX3_where_1 8 rfl rfl)
theorem dX3_where_31 : decode cX3_where 31 = .ok (.ireturn, 1) := dk_172 (dk_at dksX3_where_1 9 rfl rfl)
abbrev cX3_known : ByteArray := prog_8_method_16_code
def yX3_known : MethodName := ⟨RX3, "known", "(I)I"⟩
def dkwX3_known_1 : List UInt8 := [153, 0, 12, 28, 42, 180, 0, 25, 29, 46, 128, 61, 132, 3, 1, 167, 255, 222, 28, 172]
abbrev dktX3_known_1 : List UInt8 := dkwX3_known_1 ++ []
def dkwX3_known_0 : List UInt8 := [3, 61, 3, 62, 29, 42, 180, 0, 3, 180, 0, 39, 182, 0, 77, 162, 0, 26, 27, 29, 184, 0, 95]
abbrev dktX3_known_0 : List UInt8 := dkwX3_known_0 ++ dktX3_known_1
theorem dksX3_known_0 : cX3_known.data.toList.drop 0 = dktX3_known_0 := by decide +kernel
theorem dksX3_known_1 : cX3_known.data.toList.drop 23 = dktX3_known_1 := dk_seg dksX3_known_0 23 rfl rfl
theorem dX3_known_0 : decode cX3_known 0 = .ok (.iconst 0, 1) := dk_3 (dk_at dksX3_known_0 0 rfl rfl)
theorem dX3_known_1 : decode cX3_known 1 = .ok (.istore_n 2, 1) := dk_61 (dk_at dksX3_known_0 1 rfl rfl)
theorem dX3_known_2 : decode cX3_known 2 = .ok (.iconst 0, 1) := dk_3 (dk_at dksX3_known_0 2 rfl rfl)
theorem dX3_known_3 : decode cX3_known 3 = .ok (.istore_n 3, 1) := dk_62 (dk_at dksX3_known_0 3 rfl rfl)
theorem dX3_known_4 : decode cX3_known 4 = .ok (.iload_n 3, 1) := dk_29 (dk_at dksX3_known_0 4 rfl rfl)
theorem dX3_known_5 : decode cX3_known 5 = .ok (.aload_n 0, 1) := dk_42 (dk_at dksX3_known_0 5 rfl rfl)
theorem dX3_known_6 : decode cX3_known 6 = .ok (.getfield 3, 3) := dk_180 0 3 (dk_at dksX3_known_0 6 rfl rfl)
theorem dX3_known_9 : decode cX3_known 9 = .ok (.getfield 39, 3) := dk_180 0 39 (dk_at dksX3_known_0 9 rfl rfl)
theorem dX3_known_12 : decode cX3_known 12 = .ok (.invokevirtual 77, 3) := dk_182 0 77 (dk_at dksX3_known_0 12 rfl rfl)
theorem dX3_known_15 : decode cX3_known 15 = .ok (.if_icmp .ge 26, 3) := dk_162 0 26 (dk_at dksX3_known_0 15 rfl rfl)
theorem dX3_known_18 : decode cX3_known 18 = .ok (.iload_n 1, 1) := dk_27 (dk_at dksX3_known_0 18 rfl rfl)
theorem dX3_known_19 : decode cX3_known 19 = .ok (.iload_n 3, 1) := dk_29 (dk_at dksX3_known_0 19 rfl rfl)
theorem dX3_known_20 : decode cX3_known 20 = .ok (.invokestatic 95, 3) := dk_184 0 95 (dk_at dksX3_known_0 20 rfl rfl)
theorem dX3_known_23 : decode cX3_known 23 = .ok (.ifCond .eq 12, 3) := dk_153 0 12 (dk_at dksX3_known_1 0 rfl rfl)
theorem dX3_known_26 : decode cX3_known 26 = .ok (.iload_n 2, 1) := dk_28 (dk_at dksX3_known_1 3 rfl rfl)
theorem dX3_known_27 : decode cX3_known 27 = .ok (.aload_n 0, 1) := dk_42 (dk_at dksX3_known_1 4 rfl rfl)
theorem dX3_known_28 : decode cX3_known 28 = .ok (.getfield 25, 3) := dk_180 0 25 (dk_at dksX3_known_1 5 rfl rfl)
theorem dX3_known_31 : decode cX3_known 31 = .ok (.iload_n 3, 1) := dk_29 (dk_at dksX3_known_1 8 rfl rfl)
theorem dX3_known_32 : decode cX3_known 32 = .ok (.iaload, 1) := dk_46 (dk_at dksX3_known_1 9 rfl rfl)
theorem dX3_known_33 : decode cX3_known 33 = .ok (.ior, 1) := dk_128 (dk_at dksX3_known_1 10 rfl rfl)
theorem dX3_known_34 : decode cX3_known 34 = .ok (.istore_n 2, 1) := dk_61 (dk_at dksX3_known_1 11 rfl rfl)
theorem dX3_known_35 : decode cX3_known 35 = .ok (.iinc 3 1, 3) := dk_132 3 1 (dk_at dksX3_known_1 12 rfl rfl)
theorem dX3_known_38 : decode cX3_known 38 = .ok (.goto (-34), 3) := dk_167 255 222 (dk_at dksX3_known_1 15 rfl rfl)
theorem dX3_known_41 : decode cX3_known 41 = .ok (.iload_n 2, 1) := dk_28 (dk_at dksX3_known_1 18 rfl rfl)
theorem dX3_known_42 : decode cX3_known 42 = .ok (.ireturn, 1) := dk_172 (dk_at dksX3_known_1 19 rfl rfl)
abbrev cX3_shows : ByteArray := prog_8_method_15_code
def yX3_shows : MethodName := ⟨RX3, "shows", "(I)I"⟩
def dkwX3_shows_0 : List UInt8 := [42, 42, 27, 182, 0, 98, 182, 0, 101, 172]
abbrev dktX3_shows_0 : List UInt8 := dkwX3_shows_0 ++ []
theorem dksX3_shows_0 : cX3_shows.data.toList.drop 0 = dktX3_shows_0 := by decide +kernel
theorem dX3_shows_0 : decode cX3_shows 0 = .ok (.aload_n 0, 1) := dk_42 (dk_at dksX3_shows_0 0 rfl rfl)
theorem dX3_shows_1 : decode cX3_shows 1 = .ok (.aload_n 0, 1) := dk_42 (dk_at dksX3_shows_0 1 rfl rfl)
theorem dX3_shows_2 : decode cX3_shows 2 = .ok (.iload_n 1, 1) := dk_27 (dk_at dksX3_shows_0 2 rfl rfl)
theorem dX3_shows_3 : decode cX3_shows 3 = .ok (.invokevirtual 98, 3) := dk_182 0 98 (dk_at dksX3_shows_0 3 rfl rfl)
theorem dX3_shows_6 : decode cX3_shows 6 = .ok (.invokevirtual 101, 3) := dk_182 0 101 (dk_at dksX3_shows_0 6 rfl rfl)
theorem dX3_shows_9 : decode cX3_shows 9 = .ok (.ireturn, 1) := dk_172 (dk_at dksX3_shows_0 9 rfl rfl)
abbrev cX3_readOf : ByteArray := prog_8_method_14_code
def yX3_readOf : MethodName := ⟨RX3, "readOf", "(I)I"⟩
def dkwX3_readOf_4 : List UInt8 := [182, 0, 70, 153, 0, 9, 28, 4, 29, 120, 128, 61, 132, 3, 1, 167, 255, 153, 28, 172]
abbrev dktX3_readOf_4 : List UInt8 := dkwX3_readOf_4 ++ []
def dkwX3_readOf_3 : List UInt8 := [21, 4, 184, 0, 95, 153, 0, 29, 27, 21, 5, 184, 0, 95, 153, 0, 20, 42, 21, 4, 21, 5]
abbrev dktX3_readOf_3 : List UInt8 := dkwX3_readOf_3 ++ dktX3_readOf_4
def dkwX3_readOf_2 : List UInt8 := [180, 0, 3, 180, 0, 39, 180, 0, 81, 29, 185, 0, 90, 2, 0, 192, 0, 94, 4, 46, 54, 5, 27]
abbrev dktX3_readOf_2 : List UInt8 := dkwX3_readOf_2 ++ dktX3_readOf_3
def dkwX3_readOf_1 : List UInt8 := [180, 0, 3, 180, 0, 39, 180, 0, 81, 29, 185, 0, 90, 2, 0, 192, 0, 94, 3, 46, 54, 4, 42]
abbrev dktX3_readOf_1 : List UInt8 := dkwX3_readOf_1 ++ dktX3_readOf_2
def dkwX3_readOf_0 : List UInt8 := [3, 61, 3, 62, 29, 42, 180, 0, 3, 180, 0, 39, 180, 0, 81, 185, 0, 85, 1, 0, 162, 0, 90, 42]
abbrev dktX3_readOf_0 : List UInt8 := dkwX3_readOf_0 ++ dktX3_readOf_1
theorem dksX3_readOf_0 : cX3_readOf.data.toList.drop 0 = dktX3_readOf_0 := by decide +kernel
theorem dksX3_readOf_1 : cX3_readOf.data.toList.drop 24 = dktX3_readOf_1 := dk_seg dksX3_readOf_0 24 rfl rfl
theorem dksX3_readOf_2 : cX3_readOf.data.toList.drop 47 = dktX3_readOf_2 := dk_seg dksX3_readOf_1 23 rfl rfl
theorem dksX3_readOf_3 : cX3_readOf.data.toList.drop 70 = dktX3_readOf_3 := dk_seg dksX3_readOf_2 23 rfl rfl
theorem dksX3_readOf_4 : cX3_readOf.data.toList.drop 92 = dktX3_readOf_4 := dk_seg dksX3_readOf_3 22 rfl rfl
theorem dX3_readOf_0 : decode cX3_readOf 0 = .ok (.iconst 0, 1) := dk_3 (dk_at dksX3_readOf_0 0 rfl rfl)
theorem dX3_readOf_1 : decode cX3_readOf 1 = .ok (.istore_n 2, 1) := dk_61 (dk_at dksX3_readOf_0 1 rfl rfl)
theorem dX3_readOf_2 : decode cX3_readOf 2 = .ok (.iconst 0, 1) := dk_3 (dk_at dksX3_readOf_0 2 rfl rfl)
theorem dX3_readOf_3 : decode cX3_readOf 3 = .ok (.istore_n 3, 1) := dk_62 (dk_at dksX3_readOf_0 3 rfl rfl)
theorem dX3_readOf_4 : decode cX3_readOf 4 = .ok (.iload_n 3, 1) := dk_29 (dk_at dksX3_readOf_0 4 rfl rfl)
theorem dX3_readOf_5 : decode cX3_readOf 5 = .ok (.aload_n 0, 1) := dk_42 (dk_at dksX3_readOf_0 5 rfl rfl)
theorem dX3_readOf_6 : decode cX3_readOf 6 = .ok (.getfield 3, 3) := dk_180 0 3 (dk_at dksX3_readOf_0 6 rfl rfl)
theorem dX3_readOf_9 : decode cX3_readOf 9 = .ok (.getfield 39, 3) := dk_180 0 39 (dk_at dksX3_readOf_0 9 rfl rfl)
theorem dX3_readOf_12 : decode cX3_readOf 12 = .ok (.getfield 81, 3) := dk_180 0 81 (dk_at dksX3_readOf_0 12 rfl rfl)
theorem dX3_readOf_15 : decode cX3_readOf 15 = .ok (.invokeinterface 85 1, 5) := by decide +kernel
theorem dX3_readOf_20 : decode cX3_readOf 20 = .ok (.if_icmp .ge 90, 3) := dk_162 0 90 (dk_at dksX3_readOf_0 20 rfl rfl)
theorem dX3_readOf_23 : decode cX3_readOf 23 = .ok (.aload_n 0, 1) := dk_42 (dk_at dksX3_readOf_0 23 rfl rfl)
theorem dX3_readOf_24 : decode cX3_readOf 24 = .ok (.getfield 3, 3) := dk_180 0 3 (dk_at dksX3_readOf_1 0 rfl rfl)
theorem dX3_readOf_27 : decode cX3_readOf 27 = .ok (.getfield 39, 3) := dk_180 0 39 (dk_at dksX3_readOf_1 3 rfl rfl)
theorem dX3_readOf_30 : decode cX3_readOf 30 = .ok (.getfield 81, 3) := dk_180 0 81 (dk_at dksX3_readOf_1 6 rfl rfl)
theorem dX3_readOf_33 : decode cX3_readOf 33 = .ok (.iload_n 3, 1) := dk_29 (dk_at dksX3_readOf_1 9 rfl rfl)
theorem dX3_readOf_34 : decode cX3_readOf 34 = .ok (.invokeinterface 90 2, 5) := by decide +kernel
theorem dX3_readOf_39 : decode cX3_readOf 39 = .ok (.checkcast 94, 3) := dk_192 0 94 (dk_at dksX3_readOf_1 15 rfl rfl)
theorem dX3_readOf_42 : decode cX3_readOf 42 = .ok (.iconst 0, 1) := dk_3 (dk_at dksX3_readOf_1 18 rfl rfl)
theorem dX3_readOf_43 : decode cX3_readOf 43 = .ok (.iaload, 1) := dk_46 (dk_at dksX3_readOf_1 19 rfl rfl)
theorem dX3_readOf_44 : decode cX3_readOf 44 = .ok (.istore 4, 2) := dk_54 4 (dk_at dksX3_readOf_1 20 rfl rfl)
theorem dX3_readOf_46 : decode cX3_readOf 46 = .ok (.aload_n 0, 1) := dk_42 (dk_at dksX3_readOf_1 22 rfl rfl)
theorem dX3_readOf_47 : decode cX3_readOf 47 = .ok (.getfield 3, 3) := dk_180 0 3 (dk_at dksX3_readOf_2 0 rfl rfl)
theorem dX3_readOf_50 : decode cX3_readOf 50 = .ok (.getfield 39, 3) := dk_180 0 39 (dk_at dksX3_readOf_2 3 rfl rfl)
theorem dX3_readOf_53 : decode cX3_readOf 53 = .ok (.getfield 81, 3) := dk_180 0 81 (dk_at dksX3_readOf_2 6 rfl rfl)
theorem dX3_readOf_56 : decode cX3_readOf 56 = .ok (.iload_n 3, 1) := dk_29 (dk_at dksX3_readOf_2 9 rfl rfl)
theorem dX3_readOf_57 : decode cX3_readOf 57 = .ok (.invokeinterface 90 2, 5) := by decide +kernel
theorem dX3_readOf_62 : decode cX3_readOf 62 = .ok (.checkcast 94, 3) := dk_192 0 94 (dk_at dksX3_readOf_2 15 rfl rfl)
theorem dX3_readOf_65 : decode cX3_readOf 65 = .ok (.iconst 1, 1) := dk_4 (dk_at dksX3_readOf_2 18 rfl rfl)
theorem dX3_readOf_66 : decode cX3_readOf 66 = .ok (.iaload, 1) := dk_46 (dk_at dksX3_readOf_2 19 rfl rfl)
theorem dX3_readOf_67 : decode cX3_readOf 67 = .ok (.istore 5, 2) := dk_54 5 (dk_at dksX3_readOf_2 20 rfl rfl)
theorem dX3_readOf_69 : decode cX3_readOf 69 = .ok (.iload_n 1, 1) := dk_27 (dk_at dksX3_readOf_2 22 rfl rfl)
theorem dX3_readOf_70 : decode cX3_readOf 70 = .ok (.iload 4, 2) := dk_21 4 (dk_at dksX3_readOf_3 0 rfl rfl)
theorem dX3_readOf_72 : decode cX3_readOf 72 = .ok (.invokestatic 95, 3) := dk_184 0 95 (dk_at dksX3_readOf_3 2 rfl rfl)
theorem dX3_readOf_75 : decode cX3_readOf 75 = .ok (.ifCond .eq 29, 3) := dk_153 0 29 (dk_at dksX3_readOf_3 5 rfl rfl)
theorem dX3_readOf_78 : decode cX3_readOf 78 = .ok (.iload_n 1, 1) := dk_27 (dk_at dksX3_readOf_3 8 rfl rfl)
theorem dX3_readOf_79 : decode cX3_readOf 79 = .ok (.iload 5, 2) := dk_21 5 (dk_at dksX3_readOf_3 9 rfl rfl)
theorem dX3_readOf_81 : decode cX3_readOf 81 = .ok (.invokestatic 95, 3) := dk_184 0 95 (dk_at dksX3_readOf_3 11 rfl rfl)
theorem dX3_readOf_84 : decode cX3_readOf 84 = .ok (.ifCond .eq 20, 3) := dk_153 0 20 (dk_at dksX3_readOf_3 14 rfl rfl)
theorem dX3_readOf_87 : decode cX3_readOf 87 = .ok (.aload_n 0, 1) := dk_42 (dk_at dksX3_readOf_3 17 rfl rfl)
theorem dX3_readOf_88 : decode cX3_readOf 88 = .ok (.iload 4, 2) := dk_21 4 (dk_at dksX3_readOf_3 18 rfl rfl)
theorem dX3_readOf_90 : decode cX3_readOf 90 = .ok (.iload 5, 2) := dk_21 5 (dk_at dksX3_readOf_3 20 rfl rfl)
theorem dX3_readOf_92 : decode cX3_readOf 92 = .ok (.invokevirtual 70, 3) := dk_182 0 70 (dk_at dksX3_readOf_4 0 rfl rfl)
theorem dX3_readOf_95 : decode cX3_readOf 95 = .ok (.ifCond .eq 9, 3) := dk_153 0 9 (dk_at dksX3_readOf_4 3 rfl rfl)
theorem dX3_readOf_98 : decode cX3_readOf 98 = .ok (.iload_n 2, 1) := dk_28 (dk_at dksX3_readOf_4 6 rfl rfl)
theorem dX3_readOf_99 : decode cX3_readOf 99 = .ok (.iconst 1, 1) := dk_4 (dk_at dksX3_readOf_4 7 rfl rfl)
theorem dX3_readOf_100 : decode cX3_readOf 100 = .ok (.iload_n 3, 1) := dk_29 (dk_at dksX3_readOf_4 8 rfl rfl)
theorem dX3_readOf_101 : decode cX3_readOf 101 = .ok (.ishl, 1) := dk_120 (dk_at dksX3_readOf_4 9 rfl rfl)
theorem dX3_readOf_102 : decode cX3_readOf 102 = .ok (.ior, 1) := dk_128 (dk_at dksX3_readOf_4 10 rfl rfl)
theorem dX3_readOf_103 : decode cX3_readOf 103 = .ok (.istore_n 2, 1) := dk_61 (dk_at dksX3_readOf_4 11 rfl rfl)
theorem dX3_readOf_104 : decode cX3_readOf 104 = .ok (.iinc 3 1, 3) := dk_132 3 1 (dk_at dksX3_readOf_4 12 rfl rfl)
theorem dX3_readOf_107 : decode cX3_readOf 107 = .ok (.goto (-103), 3) := dk_167 255 153 (dk_at dksX3_readOf_4 15 rfl rfl)
theorem dX3_readOf_110 : decode cX3_readOf 110 = .ok (.iload_n 2, 1) := dk_28 (dk_at dksX3_readOf_4 18 rfl rfl)
theorem dX3_readOf_111 : decode cX3_readOf 111 = .ok (.ireturn, 1) := dk_172 (dk_at dksX3_readOf_4 19 rfl rfl)
abbrev cX3_fits : ByteArray := prog_8_method_9_code
def yX3_fits : MethodName := ⟨RX3, "fits", "(II)Z"⟩
def dkwX3_fits_1 : List UInt8 := [182, 0, 61, 42, 180, 0, 3, 180, 0, 39, 180, 0, 64, 163, 0, 7, 4, 167, 0, 4, 3, 172]
abbrev dktX3_fits_1 : List UInt8 := dkwX3_fits_1 ++ []
def dkwX3_fits_0 : List UInt8 := [27, 28, 159, 0, 42, 42, 27, 182, 0, 57, 154, 0, 34, 42, 28, 182, 0, 57, 154, 0, 26, 42, 27, 28]
abbrev dktX3_fits_0 : List UInt8 := dkwX3_fits_0 ++ dktX3_fits_1
theorem dksX3_fits_0 : cX3_fits.data.toList.drop 0 = dktX3_fits_0 := by decide +kernel
theorem dksX3_fits_1 : cX3_fits.data.toList.drop 24 = dktX3_fits_1 := dk_seg dksX3_fits_0 24 rfl rfl
theorem dX3_fits_0 : decode cX3_fits 0 = .ok (.iload_n 1, 1) := dk_27 (dk_at dksX3_fits_0 0 rfl rfl)
theorem dX3_fits_1 : decode cX3_fits 1 = .ok (.iload_n 2, 1) := dk_28 (dk_at dksX3_fits_0 1 rfl rfl)
theorem dX3_fits_2 : decode cX3_fits 2 = .ok (.if_icmp .eq 42, 3) := dk_159 0 42 (dk_at dksX3_fits_0 2 rfl rfl)
theorem dX3_fits_5 : decode cX3_fits 5 = .ok (.aload_n 0, 1) := dk_42 (dk_at dksX3_fits_0 5 rfl rfl)
theorem dX3_fits_6 : decode cX3_fits 6 = .ok (.iload_n 1, 1) := dk_27 (dk_at dksX3_fits_0 6 rfl rfl)
theorem dX3_fits_7 : decode cX3_fits 7 = .ok (.invokevirtual 57, 3) := dk_182 0 57 (dk_at dksX3_fits_0 7 rfl rfl)
theorem dX3_fits_10 : decode cX3_fits 10 = .ok (.ifCond .ne 34, 3) := dk_154 0 34 (dk_at dksX3_fits_0 10 rfl rfl)
theorem dX3_fits_13 : decode cX3_fits 13 = .ok (.aload_n 0, 1) := dk_42 (dk_at dksX3_fits_0 13 rfl rfl)
theorem dX3_fits_14 : decode cX3_fits 14 = .ok (.iload_n 2, 1) := dk_28 (dk_at dksX3_fits_0 14 rfl rfl)
theorem dX3_fits_15 : decode cX3_fits 15 = .ok (.invokevirtual 57, 3) := dk_182 0 57 (dk_at dksX3_fits_0 15 rfl rfl)
theorem dX3_fits_18 : decode cX3_fits 18 = .ok (.ifCond .ne 26, 3) := dk_154 0 26 (dk_at dksX3_fits_0 18 rfl rfl)
theorem dX3_fits_21 : decode cX3_fits 21 = .ok (.aload_n 0, 1) := dk_42 (dk_at dksX3_fits_0 21 rfl rfl)
theorem dX3_fits_22 : decode cX3_fits 22 = .ok (.iload_n 1, 1) := dk_27 (dk_at dksX3_fits_0 22 rfl rfl)
theorem dX3_fits_23 : decode cX3_fits 23 = .ok (.iload_n 2, 1) := dk_28 (dk_at dksX3_fits_0 23 rfl rfl)
theorem dX3_fits_24 : decode cX3_fits 24 = .ok (.invokevirtual 61, 3) := dk_182 0 61 (dk_at dksX3_fits_1 0 rfl rfl)
theorem dX3_fits_27 : decode cX3_fits 27 = .ok (.aload_n 0, 1) := dk_42 (dk_at dksX3_fits_1 3 rfl rfl)
theorem dX3_fits_28 : decode cX3_fits 28 = .ok (.getfield 3, 3) := dk_180 0 3 (dk_at dksX3_fits_1 4 rfl rfl)
theorem dX3_fits_31 : decode cX3_fits 31 = .ok (.getfield 39, 3) := dk_180 0 39 (dk_at dksX3_fits_1 7 rfl rfl)
theorem dX3_fits_34 : decode cX3_fits 34 = .ok (.getfield 64, 3) := dk_180 0 64 (dk_at dksX3_fits_1 10 rfl rfl)
theorem dX3_fits_37 : decode cX3_fits 37 = .ok (.if_icmp .gt 7, 3) := dk_163 0 7 (dk_at dksX3_fits_1 13 rfl rfl)
theorem dX3_fits_40 : decode cX3_fits 40 = .ok (.iconst 1, 1) := dk_4 (dk_at dksX3_fits_1 16 rfl rfl)
theorem dX3_fits_41 : decode cX3_fits 41 = .ok (.goto 4, 3) := dk_167 0 4 (dk_at dksX3_fits_1 17 rfl rfl)
theorem dX3_fits_44 : decode cX3_fits 44 = .ok (.iconst 0, 1) := dk_3 (dk_at dksX3_fits_1 20 rfl rfl)
theorem dX3_fits_45 : decode cX3_fits 45 = .ok (.ireturn, 1) := dk_172 (dk_at dksX3_fits_1 21 rfl rfl)
abbrev cX3_isBurnt : ByteArray := prog_8_method_5_code
def yX3_isBurnt : MethodName := ⟨RX3, "isBurnt", "(I)Z"⟩
def dkwX3_isBurnt_0 : List UInt8 := [42, 180, 0, 22, 27, 46, 2, 160, 0, 7, 4, 167, 0, 4, 3, 172]
abbrev dktX3_isBurnt_0 : List UInt8 := dkwX3_isBurnt_0 ++ []
theorem dksX3_isBurnt_0 : cX3_isBurnt.data.toList.drop 0 = dktX3_isBurnt_0 := by decide +kernel
theorem dX3_isBurnt_0 : decode cX3_isBurnt 0 = .ok (.aload_n 0, 1) := dk_42 (dk_at dksX3_isBurnt_0 0 rfl rfl)
theorem dX3_isBurnt_1 : decode cX3_isBurnt 1 = .ok (.getfield 22, 3) := dk_180 0 22 (dk_at dksX3_isBurnt_0 1 rfl rfl)
theorem dX3_isBurnt_4 : decode cX3_isBurnt 4 = .ok (.iload_n 1, 1) := dk_27 (dk_at dksX3_isBurnt_0 4 rfl rfl)
theorem dX3_isBurnt_5 : decode cX3_isBurnt 5 = .ok (.iaload, 1) := dk_46 (dk_at dksX3_isBurnt_0 5 rfl rfl)
theorem dX3_isBurnt_6 : decode cX3_isBurnt 6 = .ok (.iconst (-1), 1) := dk_2 (dk_at dksX3_isBurnt_0 6 rfl rfl)
theorem dX3_isBurnt_7 : decode cX3_isBurnt 7 = .ok (.if_icmp .ne 7, 3) := dk_160 0 7 (dk_at dksX3_isBurnt_0 7 rfl rfl)
theorem dX3_isBurnt_10 : decode cX3_isBurnt 10 = .ok (.iconst 1, 1) := dk_4 (dk_at dksX3_isBurnt_0 10 rfl rfl)
theorem dX3_isBurnt_11 : decode cX3_isBurnt 11 = .ok (.goto 4, 3) := dk_167 0 4 (dk_at dksX3_isBurnt_0 11 rfl rfl)
theorem dX3_isBurnt_14 : decode cX3_isBurnt 14 = .ok (.iconst 0, 1) := dk_3 (dk_at dksX3_isBurnt_0 14 rfl rfl)
theorem dX3_isBurnt_15 : decode cX3_isBurnt 15 = .ok (.ireturn, 1) := dk_172 (dk_at dksX3_isBurnt_0 15 rfl rfl)
abbrev cX3_far : ByteArray := prog_8_method_8_code
def yX3_far : MethodName := ⟨RX3, "far", "(II)I"⟩
def dkwX3_far_0 : List UInt8 := [42, 180, 0, 19, 27, 46, 42, 180, 0, 15, 28, 46, 130, 184, 0, 52, 172]
abbrev dktX3_far_0 : List UInt8 := dkwX3_far_0 ++ []
theorem dksX3_far_0 : cX3_far.data.toList.drop 0 = dktX3_far_0 := by decide +kernel
theorem dX3_far_0 : decode cX3_far 0 = .ok (.aload_n 0, 1) := dk_42 (dk_at dksX3_far_0 0 rfl rfl)
theorem dX3_far_1 : decode cX3_far 1 = .ok (.getfield 19, 3) := dk_180 0 19 (dk_at dksX3_far_0 1 rfl rfl)
theorem dX3_far_4 : decode cX3_far 4 = .ok (.iload_n 1, 1) := dk_27 (dk_at dksX3_far_0 4 rfl rfl)
theorem dX3_far_5 : decode cX3_far 5 = .ok (.iaload, 1) := dk_46 (dk_at dksX3_far_0 5 rfl rfl)
theorem dX3_far_6 : decode cX3_far 6 = .ok (.aload_n 0, 1) := dk_42 (dk_at dksX3_far_0 6 rfl rfl)
theorem dX3_far_7 : decode cX3_far 7 = .ok (.getfield 15, 3) := dk_180 0 15 (dk_at dksX3_far_0 7 rfl rfl)
theorem dX3_far_10 : decode cX3_far 10 = .ok (.iload_n 2, 1) := dk_28 (dk_at dksX3_far_0 10 rfl rfl)
theorem dX3_far_11 : decode cX3_far 11 = .ok (.iaload, 1) := dk_46 (dk_at dksX3_far_0 11 rfl rfl)
theorem dX3_far_12 : decode cX3_far 12 = .ok (.ixor, 1) := dk_130 (dk_at dksX3_far_0 12 rfl rfl)
theorem dX3_far_13 : decode cX3_far 13 = .ok (.invokestatic 52, 3) := dk_184 0 52 (dk_at dksX3_far_0 13 rfl rfl)
theorem dX3_far_16 : decode cX3_far 16 = .ok (.ireturn, 1) := dk_172 (dk_at dksX3_far_0 16 rfl rfl)
abbrev cX3_learn : ByteArray := prog_8_method_20_code
def yX3_learn : MethodName := ⟨RX3, "learn", "(II)V"⟩
def dkwX3_learn_1 : List UInt8 := [42, 180, 0, 25, 29, 92, 46, 28, 128, 79, 132, 3, 1, 167, 255, 221, 177]
abbrev dktX3_learn_1 : List UInt8 := dkwX3_learn_1 ++ []
def dkwX3_learn_0 : List UInt8 := [3, 62, 29, 42, 180, 0, 3, 180, 0, 39, 182, 0, 77, 162, 0, 27, 27, 29, 184, 0, 95, 153, 0, 13]
abbrev dktX3_learn_0 : List UInt8 := dkwX3_learn_0 ++ dktX3_learn_1
theorem dksX3_learn_0 : cX3_learn.data.toList.drop 0 = dktX3_learn_0 := by decide +kernel
theorem dksX3_learn_1 : cX3_learn.data.toList.drop 24 = dktX3_learn_1 := dk_seg dksX3_learn_0 24 rfl rfl
theorem dX3_learn_0 : decode cX3_learn 0 = .ok (.iconst 0, 1) := dk_3 (dk_at dksX3_learn_0 0 rfl rfl)
theorem dX3_learn_1 : decode cX3_learn 1 = .ok (.istore_n 3, 1) := dk_62 (dk_at dksX3_learn_0 1 rfl rfl)
theorem dX3_learn_2 : decode cX3_learn 2 = .ok (.iload_n 3, 1) := dk_29 (dk_at dksX3_learn_0 2 rfl rfl)
theorem dX3_learn_3 : decode cX3_learn 3 = .ok (.aload_n 0, 1) := dk_42 (dk_at dksX3_learn_0 3 rfl rfl)
theorem dX3_learn_4 : decode cX3_learn 4 = .ok (.getfield 3, 3) := dk_180 0 3 (dk_at dksX3_learn_0 4 rfl rfl)
theorem dX3_learn_7 : decode cX3_learn 7 = .ok (.getfield 39, 3) := dk_180 0 39 (dk_at dksX3_learn_0 7 rfl rfl)
theorem dX3_learn_10 : decode cX3_learn 10 = .ok (.invokevirtual 77, 3) := dk_182 0 77 (dk_at dksX3_learn_0 10 rfl rfl)
theorem dX3_learn_13 : decode cX3_learn 13 = .ok (.if_icmp .ge 27, 3) := dk_162 0 27 (dk_at dksX3_learn_0 13 rfl rfl)
theorem dX3_learn_16 : decode cX3_learn 16 = .ok (.iload_n 1, 1) := dk_27 (dk_at dksX3_learn_0 16 rfl rfl)
theorem dX3_learn_17 : decode cX3_learn 17 = .ok (.iload_n 3, 1) := dk_29 (dk_at dksX3_learn_0 17 rfl rfl)
theorem dX3_learn_18 : decode cX3_learn 18 = .ok (.invokestatic 95, 3) := dk_184 0 95 (dk_at dksX3_learn_0 18 rfl rfl)
theorem dX3_learn_21 : decode cX3_learn 21 = .ok (.ifCond .eq 13, 3) := dk_153 0 13 (dk_at dksX3_learn_0 21 rfl rfl)
theorem dX3_learn_24 : decode cX3_learn 24 = .ok (.aload_n 0, 1) := dk_42 (dk_at dksX3_learn_1 0 rfl rfl)
theorem dX3_learn_25 : decode cX3_learn 25 = .ok (.getfield 25, 3) := dk_180 0 25 (dk_at dksX3_learn_1 1 rfl rfl)
theorem dX3_learn_28 : decode cX3_learn 28 = .ok (.iload_n 3, 1) := dk_29 (dk_at dksX3_learn_1 4 rfl rfl)
theorem dX3_learn_29 : decode cX3_learn 29 = .ok (.dup2, 1) := dk_92 (dk_at dksX3_learn_1 5 rfl rfl)
theorem dX3_learn_30 : decode cX3_learn 30 = .ok (.iaload, 1) := dk_46 (dk_at dksX3_learn_1 6 rfl rfl)
theorem dX3_learn_31 : decode cX3_learn 31 = .ok (.iload_n 2, 1) := dk_28 (dk_at dksX3_learn_1 7 rfl rfl)
theorem dX3_learn_32 : decode cX3_learn 32 = .ok (.ior, 1) := dk_128 (dk_at dksX3_learn_1 8 rfl rfl)
theorem dX3_learn_33 : decode cX3_learn 33 = .ok (.iastore, 1) := dk_79 (dk_at dksX3_learn_1 9 rfl rfl)
theorem dX3_learn_34 : decode cX3_learn 34 = .ok (.iinc 3 1, 3) := dk_132 3 1 (dk_at dksX3_learn_1 10 rfl rfl)
theorem dX3_learn_37 : decode cX3_learn 37 = .ok (.goto (-35), 3) := dk_167 255 221 (dk_at dksX3_learn_1 13 rfl rfl)
theorem dX3_learn_40 : decode cX3_learn 40 = .ok (.return_, 1) := dk_177 (dk_at dksX3_learn_1 16 rfl rfl)
abbrev cX3_grow : ByteArray := prog_8_method_19_code
def yX3_grow : MethodName := ⟨RX3, "grow", "(I)V"⟩
def dkwX3_grow_6 : List UInt8 := [180, 0, 19, 27, 92, 46, 4, 28, 4, 100, 16, 8, 112, 120, 130, 79, 177]
abbrev dktX3_grow_6 : List UInt8 := dkwX3_grow_6 ++ []
def dkwX3_grow_5 : List UInt8 := [180, 0, 39, 180, 0, 120, 42, 180, 0, 3, 180, 0, 111, 185, 0, 114, 2, 0, 61, 28, 158, 0, 20, 42]
abbrev dktX3_grow_5 : List UInt8 := dkwX3_grow_5 ++ dktX3_grow_6
def dkwX3_grow_4 : List UInt8 := [167, 0, 4, 4, 79, 42, 180, 0, 3, 180, 0, 111, 8, 42, 180, 0, 35, 79, 42, 180, 0, 3]
abbrev dktX3_grow_4 : List UInt8 := dkwX3_grow_4 ++ dktX3_grow_5
def dkwX3_grow_3 : List UInt8 := [42, 27, 182, 0, 74, 79, 42, 180, 0, 3, 180, 0, 111, 7, 42, 27, 182, 0, 123, 2, 160, 0, 7, 3]
abbrev dktX3_grow_3 : List UInt8 := dkwX3_grow_3 ++ dktX3_grow_4
def dkwX3_grow_2 : List UInt8 := [180, 0, 19, 27, 46, 79, 42, 180, 0, 3, 180, 0, 111, 5, 27, 79, 42, 180, 0, 3, 180, 0, 111, 6]
abbrev dktX3_grow_2 : List UInt8 := dkwX3_grow_2 ++ dktX3_grow_3
def dkwX3_grow_1 : List UInt8 := [180, 0, 3, 180, 0, 111, 3, 42, 180, 0, 15, 27, 46, 79, 42, 180, 0, 3, 180, 0, 111, 4, 42]
abbrev dktX3_grow_1 : List UInt8 := dkwX3_grow_1 ++ dktX3_grow_2
def dkwX3_grow_0 : List UInt8 := [42, 27, 182, 0, 57, 154, 0, 16, 42, 180, 0, 3, 180, 0, 39, 180, 0, 120, 199, 0, 4, 177, 42]
abbrev dktX3_grow_0 : List UInt8 := dkwX3_grow_0 ++ dktX3_grow_1
theorem dksX3_grow_0 : cX3_grow.data.toList.drop 0 = dktX3_grow_0 := by decide +kernel
theorem dksX3_grow_1 : cX3_grow.data.toList.drop 23 = dktX3_grow_1 := dk_seg dksX3_grow_0 23 rfl rfl
theorem dksX3_grow_2 : cX3_grow.data.toList.drop 46 = dktX3_grow_2 := dk_seg dksX3_grow_1 23 rfl rfl
theorem dksX3_grow_3 : cX3_grow.data.toList.drop 70 = dktX3_grow_3 := dk_seg dksX3_grow_2 24 rfl rfl
theorem dksX3_grow_4 : cX3_grow.data.toList.drop 94 = dktX3_grow_4 := dk_seg dksX3_grow_3 24 rfl rfl
theorem dksX3_grow_5 : cX3_grow.data.toList.drop 116 = dktX3_grow_5 := dk_seg dksX3_grow_4 22 rfl rfl
theorem dksX3_grow_6 : cX3_grow.data.toList.drop 140 = dktX3_grow_6 := dk_seg dksX3_grow_5 24 rfl rfl
theorem dX3_grow_0 : decode cX3_grow 0 = .ok (.aload_n 0, 1) := dk_42 (dk_at dksX3_grow_0 0 rfl rfl)
theorem dX3_grow_1 : decode cX3_grow 1 = .ok (.iload_n 1, 1) := dk_27 (dk_at dksX3_grow_0 1 rfl rfl)
theorem dX3_grow_2 : decode cX3_grow 2 = .ok (.invokevirtual 57, 3) := dk_182 0 57 (dk_at dksX3_grow_0 2 rfl rfl)
theorem dX3_grow_5 : decode cX3_grow 5 = .ok (.ifCond .ne 16, 3) := dk_154 0 16 (dk_at dksX3_grow_0 5 rfl rfl)
theorem dX3_grow_8 : decode cX3_grow 8 = .ok (.aload_n 0, 1) := dk_42 (dk_at dksX3_grow_0 8 rfl rfl)
theorem dX3_grow_9 : decode cX3_grow 9 = .ok (.getfield 3, 3) := dk_180 0 3 (dk_at dksX3_grow_0 9 rfl rfl)
theorem dX3_grow_12 : decode cX3_grow 12 = .ok (.getfield 39, 3) := dk_180 0 39 (dk_at dksX3_grow_0 12 rfl rfl)
theorem dX3_grow_15 : decode cX3_grow 15 = .ok (.getfield 120, 3) := dk_180 0 120 (dk_at dksX3_grow_0 15 rfl rfl)
theorem dX3_grow_18 : decode cX3_grow 18 = .ok (.ifnonnull 4, 3) := dk_199 0 4 (dk_at dksX3_grow_0 18 rfl rfl)
theorem dX3_grow_21 : decode cX3_grow 21 = .ok (.return_, 1) := dk_177 (dk_at dksX3_grow_0 21 rfl rfl)
theorem dX3_grow_22 : decode cX3_grow 22 = .ok (.aload_n 0, 1) := dk_42 (dk_at dksX3_grow_0 22 rfl rfl)
theorem dX3_grow_23 : decode cX3_grow 23 = .ok (.getfield 3, 3) := dk_180 0 3 (dk_at dksX3_grow_1 0 rfl rfl)
theorem dX3_grow_26 : decode cX3_grow 26 = .ok (.getfield 111, 3) := dk_180 0 111 (dk_at dksX3_grow_1 3 rfl rfl)
theorem dX3_grow_29 : decode cX3_grow 29 = .ok (.iconst 0, 1) := dk_3 (dk_at dksX3_grow_1 6 rfl rfl)
theorem dX3_grow_30 : decode cX3_grow 30 = .ok (.aload_n 0, 1) := dk_42 (dk_at dksX3_grow_1 7 rfl rfl)
theorem dX3_grow_31 : decode cX3_grow 31 = .ok (.getfield 15, 3) := dk_180 0 15 (dk_at dksX3_grow_1 8 rfl rfl)
theorem dX3_grow_34 : decode cX3_grow 34 = .ok (.iload_n 1, 1) := dk_27 (dk_at dksX3_grow_1 11 rfl rfl)
theorem dX3_grow_35 : decode cX3_grow 35 = .ok (.iaload, 1) := dk_46 (dk_at dksX3_grow_1 12 rfl rfl)
theorem dX3_grow_36 : decode cX3_grow 36 = .ok (.iastore, 1) := dk_79 (dk_at dksX3_grow_1 13 rfl rfl)
theorem dX3_grow_37 : decode cX3_grow 37 = .ok (.aload_n 0, 1) := dk_42 (dk_at dksX3_grow_1 14 rfl rfl)
theorem dX3_grow_38 : decode cX3_grow 38 = .ok (.getfield 3, 3) := dk_180 0 3 (dk_at dksX3_grow_1 15 rfl rfl)
theorem dX3_grow_41 : decode cX3_grow 41 = .ok (.getfield 111, 3) := dk_180 0 111 (dk_at dksX3_grow_1 18 rfl rfl)
theorem dX3_grow_44 : decode cX3_grow 44 = .ok (.iconst 1, 1) := dk_4 (dk_at dksX3_grow_1 21 rfl rfl)
theorem dX3_grow_45 : decode cX3_grow 45 = .ok (.aload_n 0, 1) := dk_42 (dk_at dksX3_grow_1 22 rfl rfl)
theorem dX3_grow_46 : decode cX3_grow 46 = .ok (.getfield 19, 3) := dk_180 0 19 (dk_at dksX3_grow_2 0 rfl rfl)
theorem dX3_grow_49 : decode cX3_grow 49 = .ok (.iload_n 1, 1) := dk_27 (dk_at dksX3_grow_2 3 rfl rfl)
theorem dX3_grow_50 : decode cX3_grow 50 = .ok (.iaload, 1) := dk_46 (dk_at dksX3_grow_2 4 rfl rfl)
theorem dX3_grow_51 : decode cX3_grow 51 = .ok (.iastore, 1) := dk_79 (dk_at dksX3_grow_2 5 rfl rfl)
theorem dX3_grow_52 : decode cX3_grow 52 = .ok (.aload_n 0, 1) := dk_42 (dk_at dksX3_grow_2 6 rfl rfl)
theorem dX3_grow_53 : decode cX3_grow 53 = .ok (.getfield 3, 3) := dk_180 0 3 (dk_at dksX3_grow_2 7 rfl rfl)
theorem dX3_grow_56 : decode cX3_grow 56 = .ok (.getfield 111, 3) := dk_180 0 111 (dk_at dksX3_grow_2 10 rfl rfl)
theorem dX3_grow_59 : decode cX3_grow 59 = .ok (.iconst 2, 1) := dk_5 (dk_at dksX3_grow_2 13 rfl rfl)
theorem dX3_grow_60 : decode cX3_grow 60 = .ok (.iload_n 1, 1) := dk_27 (dk_at dksX3_grow_2 14 rfl rfl)
theorem dX3_grow_61 : decode cX3_grow 61 = .ok (.iastore, 1) := dk_79 (dk_at dksX3_grow_2 15 rfl rfl)
theorem dX3_grow_62 : decode cX3_grow 62 = .ok (.aload_n 0, 1) := dk_42 (dk_at dksX3_grow_2 16 rfl rfl)
theorem dX3_grow_63 : decode cX3_grow 63 = .ok (.getfield 3, 3) := dk_180 0 3 (dk_at dksX3_grow_2 17 rfl rfl)
theorem dX3_grow_66 : decode cX3_grow 66 = .ok (.getfield 111, 3) := dk_180 0 111 (dk_at dksX3_grow_2 20 rfl rfl)
theorem dX3_grow_69 : decode cX3_grow 69 = .ok (.iconst 3, 1) := dk_6 (dk_at dksX3_grow_2 23 rfl rfl)
theorem dX3_grow_70 : decode cX3_grow 70 = .ok (.aload_n 0, 1) := dk_42 (dk_at dksX3_grow_3 0 rfl rfl)
theorem dX3_grow_71 : decode cX3_grow 71 = .ok (.iload_n 1, 1) := dk_27 (dk_at dksX3_grow_3 1 rfl rfl)
theorem dX3_grow_72 : decode cX3_grow 72 = .ok (.invokevirtual 74, 3) := dk_182 0 74 (dk_at dksX3_grow_3 2 rfl rfl)
theorem dX3_grow_75 : decode cX3_grow 75 = .ok (.iastore, 1) := dk_79 (dk_at dksX3_grow_3 5 rfl rfl)
theorem dX3_grow_76 : decode cX3_grow 76 = .ok (.aload_n 0, 1) := dk_42 (dk_at dksX3_grow_3 6 rfl rfl)
theorem dX3_grow_77 : decode cX3_grow 77 = .ok (.getfield 3, 3) := dk_180 0 3 (dk_at dksX3_grow_3 7 rfl rfl)
theorem dX3_grow_80 : decode cX3_grow 80 = .ok (.getfield 111, 3) := dk_180 0 111 (dk_at dksX3_grow_3 10 rfl rfl)
theorem dX3_grow_83 : decode cX3_grow 83 = .ok (.iconst 4, 1) := dk_7 (dk_at dksX3_grow_3 13 rfl rfl)
theorem dX3_grow_84 : decode cX3_grow 84 = .ok (.aload_n 0, 1) := dk_42 (dk_at dksX3_grow_3 14 rfl rfl)
theorem dX3_grow_85 : decode cX3_grow 85 = .ok (.iload_n 1, 1) := dk_27 (dk_at dksX3_grow_3 15 rfl rfl)
theorem dX3_grow_86 : decode cX3_grow 86 = .ok (.invokevirtual 123, 3) := dk_182 0 123 (dk_at dksX3_grow_3 16 rfl rfl)
theorem dX3_grow_89 : decode cX3_grow 89 = .ok (.iconst (-1), 1) := dk_2 (dk_at dksX3_grow_3 19 rfl rfl)
theorem dX3_grow_90 : decode cX3_grow 90 = .ok (.if_icmp .ne 7, 3) := dk_160 0 7 (dk_at dksX3_grow_3 20 rfl rfl)
theorem dX3_grow_93 : decode cX3_grow 93 = .ok (.iconst 0, 1) := dk_3 (dk_at dksX3_grow_3 23 rfl rfl)
theorem dX3_grow_94 : decode cX3_grow 94 = .ok (.goto 4, 3) := dk_167 0 4 (dk_at dksX3_grow_4 0 rfl rfl)
theorem dX3_grow_97 : decode cX3_grow 97 = .ok (.iconst 1, 1) := dk_4 (dk_at dksX3_grow_4 3 rfl rfl)
theorem dX3_grow_98 : decode cX3_grow 98 = .ok (.iastore, 1) := dk_79 (dk_at dksX3_grow_4 4 rfl rfl)
theorem dX3_grow_99 : decode cX3_grow 99 = .ok (.aload_n 0, 1) := dk_42 (dk_at dksX3_grow_4 5 rfl rfl)
theorem dX3_grow_100 : decode cX3_grow 100 = .ok (.getfield 3, 3) := dk_180 0 3 (dk_at dksX3_grow_4 6 rfl rfl)
theorem dX3_grow_103 : decode cX3_grow 103 = .ok (.getfield 111, 3) := dk_180 0 111 (dk_at dksX3_grow_4 9 rfl rfl)
theorem dX3_grow_106 : decode cX3_grow 106 = .ok (.iconst 5, 1) := dk_8 (dk_at dksX3_grow_4 12 rfl rfl)
theorem dX3_grow_107 : decode cX3_grow 107 = .ok (.aload_n 0, 1) := dk_42 (dk_at dksX3_grow_4 13 rfl rfl)
theorem dX3_grow_108 : decode cX3_grow 108 = .ok (.getfield 35, 3) := dk_180 0 35 (dk_at dksX3_grow_4 14 rfl rfl)
theorem dX3_grow_111 : decode cX3_grow 111 = .ok (.iastore, 1) := dk_79 (dk_at dksX3_grow_4 17 rfl rfl)
theorem dX3_grow_112 : decode cX3_grow 112 = .ok (.aload_n 0, 1) := dk_42 (dk_at dksX3_grow_4 18 rfl rfl)
theorem dX3_grow_113 : decode cX3_grow 113 = .ok (.getfield 3, 3) := dk_180 0 3 (dk_at dksX3_grow_4 19 rfl rfl)
theorem dX3_grow_116 : decode cX3_grow 116 = .ok (.getfield 39, 3) := dk_180 0 39 (dk_at dksX3_grow_5 0 rfl rfl)
theorem dX3_grow_119 : decode cX3_grow 119 = .ok (.getfield 120, 3) := dk_180 0 120 (dk_at dksX3_grow_5 3 rfl rfl)
theorem dX3_grow_122 : decode cX3_grow 122 = .ok (.aload_n 0, 1) := dk_42 (dk_at dksX3_grow_5 6 rfl rfl)
theorem dX3_grow_123 : decode cX3_grow 123 = .ok (.getfield 3, 3) := dk_180 0 3 (dk_at dksX3_grow_5 7 rfl rfl)
theorem dX3_grow_126 : decode cX3_grow 126 = .ok (.getfield 111, 3) := dk_180 0 111 (dk_at dksX3_grow_5 10 rfl rfl)
theorem dX3_grow_129 : decode cX3_grow 129 = .ok (.invokeinterface 114 2, 5) := by decide +kernel
theorem dX3_grow_134 : decode cX3_grow 134 = .ok (.istore_n 2, 1) := dk_61 (dk_at dksX3_grow_5 18 rfl rfl)
theorem dX3_grow_135 : decode cX3_grow 135 = .ok (.iload_n 2, 1) := dk_28 (dk_at dksX3_grow_5 19 rfl rfl)
theorem dX3_grow_136 : decode cX3_grow 136 = .ok (.ifCond .le 20, 3) := dk_158 0 20 (dk_at dksX3_grow_5 20 rfl rfl)
theorem dX3_grow_139 : decode cX3_grow 139 = .ok (.aload_n 0, 1) := dk_42 (dk_at dksX3_grow_5 23 rfl rfl)
theorem dX3_grow_140 : decode cX3_grow 140 = .ok (.getfield 19, 3) := dk_180 0 19 (dk_at dksX3_grow_6 0 rfl rfl)
theorem dX3_grow_143 : decode cX3_grow 143 = .ok (.iload_n 1, 1) := dk_27 (dk_at dksX3_grow_6 3 rfl rfl)
theorem dX3_grow_144 : decode cX3_grow 144 = .ok (.dup2, 1) := dk_92 (dk_at dksX3_grow_6 4 rfl rfl)
theorem dX3_grow_145 : decode cX3_grow 145 = .ok (.iaload, 1) := dk_46 (dk_at dksX3_grow_6 5 rfl rfl)
theorem dX3_grow_146 : decode cX3_grow 146 = .ok (.iconst 1, 1) := dk_4 (dk_at dksX3_grow_6 6 rfl rfl)
theorem dX3_grow_147 : decode cX3_grow 147 = .ok (.iload_n 2, 1) := dk_28 (dk_at dksX3_grow_6 7 rfl rfl)
theorem dX3_grow_148 : decode cX3_grow 148 = .ok (.iconst 1, 1) := dk_4 (dk_at dksX3_grow_6 8 rfl rfl)
theorem dX3_grow_149 : decode cX3_grow 149 = .ok (.isub, 1) := dk_100 (dk_at dksX3_grow_6 9 rfl rfl)
theorem dX3_grow_150 : decode cX3_grow 150 = .ok (.bipush 8, 2) := dk_16 8 (dk_at dksX3_grow_6 10 rfl rfl)
theorem dX3_grow_152 : decode cX3_grow 152 = .ok (.irem, 1) := dk_112 (dk_at dksX3_grow_6 12 rfl rfl)
theorem dX3_grow_153 : decode cX3_grow 153 = .ok (.ishl, 1) := dk_120 (dk_at dksX3_grow_6 13 rfl rfl)
theorem dX3_grow_154 : decode cX3_grow 154 = .ok (.ixor, 1) := dk_130 (dk_at dksX3_grow_6 14 rfl rfl)
theorem dX3_grow_155 : decode cX3_grow 155 = .ok (.iastore, 1) := dk_79 (dk_at dksX3_grow_6 15 rfl rfl)
theorem dX3_grow_156 : decode cX3_grow 156 = .ok (.return_, 1) := dk_177 (dk_at dksX3_grow_6 16 rfl rfl)
abbrev cX3_bearer : ByteArray := prog_8_method_6_code
def yX3_bearer : MethodName := ⟨RX3, "bearer", "(I)I"⟩
def dkwX3_bearer_0 : List UInt8 := [42, 180, 0, 22, 27, 46, 7, 161, 0, 14, 42, 180, 0, 22, 27, 46, 7, 100, 167, 0, 4, 2, 172]
abbrev dktX3_bearer_0 : List UInt8 := dkwX3_bearer_0 ++ []
theorem dksX3_bearer_0 : cX3_bearer.data.toList.drop 0 = dktX3_bearer_0 := by decide +kernel
theorem dX3_bearer_0 : decode cX3_bearer 0 = .ok (.aload_n 0, 1) := dk_42 (dk_at dksX3_bearer_0 0 rfl rfl)
theorem dX3_bearer_1 : decode cX3_bearer 1 = .ok (.getfield 22, 3) := dk_180 0 22 (dk_at dksX3_bearer_0 1 rfl rfl)
theorem dX3_bearer_4 : decode cX3_bearer 4 = .ok (.iload_n 1, 1) := dk_27 (dk_at dksX3_bearer_0 4 rfl rfl)
theorem dX3_bearer_5 : decode cX3_bearer 5 = .ok (.iaload, 1) := dk_46 (dk_at dksX3_bearer_0 5 rfl rfl)
theorem dX3_bearer_6 : decode cX3_bearer 6 = .ok (.iconst 4, 1) := dk_7 (dk_at dksX3_bearer_0 6 rfl rfl)
theorem dX3_bearer_7 : decode cX3_bearer 7 = .ok (.if_icmp .lt 14, 3) := dk_161 0 14 (dk_at dksX3_bearer_0 7 rfl rfl)
theorem dX3_bearer_10 : decode cX3_bearer 10 = .ok (.aload_n 0, 1) := dk_42 (dk_at dksX3_bearer_0 10 rfl rfl)
theorem dX3_bearer_11 : decode cX3_bearer 11 = .ok (.getfield 22, 3) := dk_180 0 22 (dk_at dksX3_bearer_0 11 rfl rfl)
theorem dX3_bearer_14 : decode cX3_bearer 14 = .ok (.iload_n 1, 1) := dk_27 (dk_at dksX3_bearer_0 14 rfl rfl)
theorem dX3_bearer_15 : decode cX3_bearer 15 = .ok (.iaload, 1) := dk_46 (dk_at dksX3_bearer_0 15 rfl rfl)
theorem dX3_bearer_16 : decode cX3_bearer 16 = .ok (.iconst 4, 1) := dk_7 (dk_at dksX3_bearer_0 16 rfl rfl)
theorem dX3_bearer_17 : decode cX3_bearer 17 = .ok (.isub, 1) := dk_100 (dk_at dksX3_bearer_0 17 rfl rfl)
theorem dX3_bearer_18 : decode cX3_bearer 18 = .ok (.goto 4, 3) := dk_167 0 4 (dk_at dksX3_bearer_0 18 rfl rfl)
theorem dX3_bearer_21 : decode cX3_bearer 21 = .ok (.iconst (-1), 1) := dk_2 (dk_at dksX3_bearer_0 21 rfl rfl)
theorem dX3_bearer_22 : decode cX3_bearer 22 = .ok (.ireturn, 1) := dk_172 (dk_at dksX3_bearer_0 22 rfl rfl)
abbrev cX3_burnt : ByteArray := prog_8_method_28_code
def yX3_burnt : MethodName := ⟨RX3, "burnt", "()I"⟩
def dkwX3_burnt_1 : List UInt8 := [153, 0, 9, 27, 4, 28, 120, 128, 60, 132, 2, 1, 167, 255, 225, 27, 172]
abbrev dktX3_burnt_1 : List UInt8 := dkwX3_burnt_1 ++ []
def dkwX3_burnt_0 : List UInt8 := [3, 60, 3, 61, 28, 42, 180, 0, 3, 180, 0, 39, 180, 0, 67, 162, 0, 23, 42, 28, 182, 0, 57]
abbrev dktX3_burnt_0 : List UInt8 := dkwX3_burnt_0 ++ dktX3_burnt_1
theorem dksX3_burnt_0 : cX3_burnt.data.toList.drop 0 = dktX3_burnt_0 := by decide +kernel
theorem dksX3_burnt_1 : cX3_burnt.data.toList.drop 23 = dktX3_burnt_1 := dk_seg dksX3_burnt_0 23 rfl rfl
theorem dX3_burnt_0 : decode cX3_burnt 0 = .ok (.iconst 0, 1) := dk_3 (dk_at dksX3_burnt_0 0 rfl rfl)
theorem dX3_burnt_1 : decode cX3_burnt 1 = .ok (.istore_n 1, 1) := dk_60 (dk_at dksX3_burnt_0 1 rfl rfl)
theorem dX3_burnt_2 : decode cX3_burnt 2 = .ok (.iconst 0, 1) := dk_3 (dk_at dksX3_burnt_0 2 rfl rfl)
theorem dX3_burnt_3 : decode cX3_burnt 3 = .ok (.istore_n 2, 1) := dk_61 (dk_at dksX3_burnt_0 3 rfl rfl)
theorem dX3_burnt_4 : decode cX3_burnt 4 = .ok (.iload_n 2, 1) := dk_28 (dk_at dksX3_burnt_0 4 rfl rfl)
theorem dX3_burnt_5 : decode cX3_burnt 5 = .ok (.aload_n 0, 1) := dk_42 (dk_at dksX3_burnt_0 5 rfl rfl)
theorem dX3_burnt_6 : decode cX3_burnt 6 = .ok (.getfield 3, 3) := dk_180 0 3 (dk_at dksX3_burnt_0 6 rfl rfl)
theorem dX3_burnt_9 : decode cX3_burnt 9 = .ok (.getfield 39, 3) := dk_180 0 39 (dk_at dksX3_burnt_0 9 rfl rfl)
theorem dX3_burnt_12 : decode cX3_burnt 12 = .ok (.getfield 67, 3) := dk_180 0 67 (dk_at dksX3_burnt_0 12 rfl rfl)
theorem dX3_burnt_15 : decode cX3_burnt 15 = .ok (.if_icmp .ge 23, 3) := dk_162 0 23 (dk_at dksX3_burnt_0 15 rfl rfl)
theorem dX3_burnt_18 : decode cX3_burnt 18 = .ok (.aload_n 0, 1) := dk_42 (dk_at dksX3_burnt_0 18 rfl rfl)
theorem dX3_burnt_19 : decode cX3_burnt 19 = .ok (.iload_n 2, 1) := dk_28 (dk_at dksX3_burnt_0 19 rfl rfl)
theorem dX3_burnt_20 : decode cX3_burnt 20 = .ok (.invokevirtual 57, 3) := dk_182 0 57 (dk_at dksX3_burnt_0 20 rfl rfl)
theorem dX3_burnt_23 : decode cX3_burnt 23 = .ok (.ifCond .eq 9, 3) := dk_153 0 9 (dk_at dksX3_burnt_1 0 rfl rfl)
theorem dX3_burnt_26 : decode cX3_burnt 26 = .ok (.iload_n 1, 1) := dk_27 (dk_at dksX3_burnt_1 3 rfl rfl)
theorem dX3_burnt_27 : decode cX3_burnt 27 = .ok (.iconst 1, 1) := dk_4 (dk_at dksX3_burnt_1 4 rfl rfl)
theorem dX3_burnt_28 : decode cX3_burnt 28 = .ok (.iload_n 2, 1) := dk_28 (dk_at dksX3_burnt_1 5 rfl rfl)
theorem dX3_burnt_29 : decode cX3_burnt 29 = .ok (.ishl, 1) := dk_120 (dk_at dksX3_burnt_1 6 rfl rfl)
theorem dX3_burnt_30 : decode cX3_burnt 30 = .ok (.ior, 1) := dk_128 (dk_at dksX3_burnt_1 7 rfl rfl)
theorem dX3_burnt_31 : decode cX3_burnt 31 = .ok (.istore_n 1, 1) := dk_60 (dk_at dksX3_burnt_1 8 rfl rfl)
theorem dX3_burnt_32 : decode cX3_burnt 32 = .ok (.iinc 2 1, 3) := dk_132 2 1 (dk_at dksX3_burnt_1 9 rfl rfl)
theorem dX3_burnt_35 : decode cX3_burnt 35 = .ok (.goto (-31), 3) := dk_167 255 225 (dk_at dksX3_burnt_1 12 rfl rfl)
theorem dX3_burnt_38 : decode cX3_burnt 38 = .ok (.iload_n 1, 1) := dk_27 (dk_at dksX3_burnt_1 15 rfl rfl)
theorem dX3_burnt_39 : decode cX3_burnt 39 = .ok (.ireturn, 1) := dk_172 (dk_at dksX3_burnt_1 16 rfl rfl)
abbrev cX3_borne : ByteArray := prog_8_method_26_code
def yX3_borne : MethodName := ⟨RX3, "borne", "()I"⟩
def dkwX3_borne_1 : List UInt8 := [159, 0, 9, 27, 4, 28, 120, 128, 60, 132, 2, 1, 167, 255, 224, 27, 172]
abbrev dktX3_borne_1 : List UInt8 := dkwX3_borne_1 ++ []
def dkwX3_borne_0 : List UInt8 := [3, 60, 3, 61, 28, 42, 180, 0, 3, 180, 0, 39, 180, 0, 67, 162, 0, 24, 42, 28, 182, 0, 123, 2]
abbrev dktX3_borne_0 : List UInt8 := dkwX3_borne_0 ++ dktX3_borne_1
theorem dksX3_borne_0 : cX3_borne.data.toList.drop 0 = dktX3_borne_0 := by decide +kernel
theorem dksX3_borne_1 : cX3_borne.data.toList.drop 24 = dktX3_borne_1 := dk_seg dksX3_borne_0 24 rfl rfl
theorem dX3_borne_0 : decode cX3_borne 0 = .ok (.iconst 0, 1) := dk_3 (dk_at dksX3_borne_0 0 rfl rfl)
theorem dX3_borne_1 : decode cX3_borne 1 = .ok (.istore_n 1, 1) := dk_60 (dk_at dksX3_borne_0 1 rfl rfl)
theorem dX3_borne_2 : decode cX3_borne 2 = .ok (.iconst 0, 1) := dk_3 (dk_at dksX3_borne_0 2 rfl rfl)
theorem dX3_borne_3 : decode cX3_borne 3 = .ok (.istore_n 2, 1) := dk_61 (dk_at dksX3_borne_0 3 rfl rfl)
theorem dX3_borne_4 : decode cX3_borne 4 = .ok (.iload_n 2, 1) := dk_28 (dk_at dksX3_borne_0 4 rfl rfl)
theorem dX3_borne_5 : decode cX3_borne 5 = .ok (.aload_n 0, 1) := dk_42 (dk_at dksX3_borne_0 5 rfl rfl)
theorem dX3_borne_6 : decode cX3_borne 6 = .ok (.getfield 3, 3) := dk_180 0 3 (dk_at dksX3_borne_0 6 rfl rfl)
theorem dX3_borne_9 : decode cX3_borne 9 = .ok (.getfield 39, 3) := dk_180 0 39 (dk_at dksX3_borne_0 9 rfl rfl)
theorem dX3_borne_12 : decode cX3_borne 12 = .ok (.getfield 67, 3) := dk_180 0 67 (dk_at dksX3_borne_0 12 rfl rfl)
theorem dX3_borne_15 : decode cX3_borne 15 = .ok (.if_icmp .ge 24, 3) := dk_162 0 24 (dk_at dksX3_borne_0 15 rfl rfl)
theorem dX3_borne_18 : decode cX3_borne 18 = .ok (.aload_n 0, 1) := dk_42 (dk_at dksX3_borne_0 18 rfl rfl)
theorem dX3_borne_19 : decode cX3_borne 19 = .ok (.iload_n 2, 1) := dk_28 (dk_at dksX3_borne_0 19 rfl rfl)
theorem dX3_borne_20 : decode cX3_borne 20 = .ok (.invokevirtual 123, 3) := dk_182 0 123 (dk_at dksX3_borne_0 20 rfl rfl)
theorem dX3_borne_23 : decode cX3_borne 23 = .ok (.iconst (-1), 1) := dk_2 (dk_at dksX3_borne_0 23 rfl rfl)
theorem dX3_borne_24 : decode cX3_borne 24 = .ok (.if_icmp .eq 9, 3) := dk_159 0 9 (dk_at dksX3_borne_1 0 rfl rfl)
theorem dX3_borne_27 : decode cX3_borne 27 = .ok (.iload_n 1, 1) := dk_27 (dk_at dksX3_borne_1 3 rfl rfl)
theorem dX3_borne_28 : decode cX3_borne 28 = .ok (.iconst 1, 1) := dk_4 (dk_at dksX3_borne_1 4 rfl rfl)
theorem dX3_borne_29 : decode cX3_borne 29 = .ok (.iload_n 2, 1) := dk_28 (dk_at dksX3_borne_1 5 rfl rfl)
theorem dX3_borne_30 : decode cX3_borne 30 = .ok (.ishl, 1) := dk_120 (dk_at dksX3_borne_1 6 rfl rfl)
theorem dX3_borne_31 : decode cX3_borne 31 = .ok (.ior, 1) := dk_128 (dk_at dksX3_borne_1 7 rfl rfl)
theorem dX3_borne_32 : decode cX3_borne 32 = .ok (.istore_n 1, 1) := dk_60 (dk_at dksX3_borne_1 8 rfl rfl)
theorem dX3_borne_33 : decode cX3_borne 33 = .ok (.iinc 2 1, 3) := dk_132 2 1 (dk_at dksX3_borne_1 9 rfl rfl)
theorem dX3_borne_36 : decode cX3_borne 36 = .ok (.goto (-32), 3) := dk_167 255 224 (dk_at dksX3_borne_1 12 rfl rfl)
theorem dX3_borne_39 : decode cX3_borne 39 = .ok (.iload_n 1, 1) := dk_27 (dk_at dksX3_borne_1 15 rfl rfl)
theorem dX3_borne_40 : decode cX3_borne 40 = .ok (.ireturn, 1) := dk_172 (dk_at dksX3_borne_1 16 rfl rfl)
abbrev cX3_read : ByteArray := prog_8_method_17_code
def yX3_read : MethodName := ⟨RX3, "read", "()I"⟩
def dkwX3_read_0 : List UInt8 := [42, 16, 63, 182, 0, 104, 172]
abbrev dktX3_read_0 : List UInt8 := dkwX3_read_0 ++ []
theorem dksX3_read_0 : cX3_read.data.toList.drop 0 = dktX3_read_0 := by decide +kernel
theorem dX3_read_0 : decode cX3_read 0 = .ok (.aload_n 0, 1) := dk_42 (dk_at dksX3_read_0 0 rfl rfl)
theorem dX3_read_1 : decode cX3_read 1 = .ok (.bipush 63, 2) := dk_16 63 (dk_at dksX3_read_0 1 rfl rfl)
theorem dX3_read_3 : decode cX3_read 3 = .ok (.invokevirtual 104, 3) := dk_182 0 104 (dk_at dksX3_read_0 3 rfl rfl)
theorem dX3_read_6 : decode cX3_read 6 = .ok (.ireturn, 1) := dk_172 (dk_at dksX3_read_0 6 rfl rfl)
abbrev cX3_fitting : ByteArray := prog_8_method_10_code
def yX3_fitting : MethodName := ⟨RX3, "fitting", "(I)I"⟩
def dkwX3_fitting_1 : List UInt8 := [153, 0, 9, 28, 4, 29, 120, 128, 61, 132, 3, 1, 167, 255, 224, 28, 172]
abbrev dktX3_fitting_1 : List UInt8 := dkwX3_fitting_1 ++ []
def dkwX3_fitting_0 : List UInt8 := [3, 61, 3, 62, 29, 42, 180, 0, 3, 180, 0, 39, 180, 0, 67, 162, 0, 24, 42, 27, 29, 182, 0, 70]
abbrev dktX3_fitting_0 : List UInt8 := dkwX3_fitting_0 ++ dktX3_fitting_1
theorem dksX3_fitting_0 : cX3_fitting.data.toList.drop 0 = dktX3_fitting_0 := by decide +kernel
theorem dksX3_fitting_1 : cX3_fitting.data.toList.drop 24 = dktX3_fitting_1 := dk_seg dksX3_fitting_0 24 rfl rfl
theorem dX3_fitting_0 : decode cX3_fitting 0 = .ok (.iconst 0, 1) := dk_3 (dk_at dksX3_fitting_0 0 rfl rfl)
theorem dX3_fitting_1 : decode cX3_fitting 1 = .ok (.istore_n 2, 1) := dk_61 (dk_at dksX3_fitting_0 1 rfl rfl)
theorem dX3_fitting_2 : decode cX3_fitting 2 = .ok (.iconst 0, 1) := dk_3 (dk_at dksX3_fitting_0 2 rfl rfl)
theorem dX3_fitting_3 : decode cX3_fitting 3 = .ok (.istore_n 3, 1) := dk_62 (dk_at dksX3_fitting_0 3 rfl rfl)
theorem dX3_fitting_4 : decode cX3_fitting 4 = .ok (.iload_n 3, 1) := dk_29 (dk_at dksX3_fitting_0 4 rfl rfl)
theorem dX3_fitting_5 : decode cX3_fitting 5 = .ok (.aload_n 0, 1) := dk_42 (dk_at dksX3_fitting_0 5 rfl rfl)
theorem dX3_fitting_6 : decode cX3_fitting 6 = .ok (.getfield 3, 3) := dk_180 0 3 (dk_at dksX3_fitting_0 6 rfl rfl)
theorem dX3_fitting_9 : decode cX3_fitting 9 = .ok (.getfield 39, 3) := dk_180 0 39 (dk_at dksX3_fitting_0 9 rfl rfl)
theorem dX3_fitting_12 : decode cX3_fitting 12 = .ok (.getfield 67, 3) := dk_180 0 67 (dk_at dksX3_fitting_0 12 rfl rfl)
theorem dX3_fitting_15 : decode cX3_fitting 15 = .ok (.if_icmp .ge 24, 3) := dk_162 0 24 (dk_at dksX3_fitting_0 15 rfl rfl)
theorem dX3_fitting_18 : decode cX3_fitting 18 = .ok (.aload_n 0, 1) := dk_42 (dk_at dksX3_fitting_0 18 rfl rfl)
theorem dX3_fitting_19 : decode cX3_fitting 19 = .ok (.iload_n 1, 1) := dk_27 (dk_at dksX3_fitting_0 19 rfl rfl)
theorem dX3_fitting_20 : decode cX3_fitting 20 = .ok (.iload_n 3, 1) := dk_29 (dk_at dksX3_fitting_0 20 rfl rfl)
theorem dX3_fitting_21 : decode cX3_fitting 21 = .ok (.invokevirtual 70, 3) := dk_182 0 70 (dk_at dksX3_fitting_0 21 rfl rfl)
theorem dX3_fitting_24 : decode cX3_fitting 24 = .ok (.ifCond .eq 9, 3) := dk_153 0 9 (dk_at dksX3_fitting_1 0 rfl rfl)
theorem dX3_fitting_27 : decode cX3_fitting 27 = .ok (.iload_n 2, 1) := dk_28 (dk_at dksX3_fitting_1 3 rfl rfl)
theorem dX3_fitting_28 : decode cX3_fitting 28 = .ok (.iconst 1, 1) := dk_4 (dk_at dksX3_fitting_1 4 rfl rfl)
theorem dX3_fitting_29 : decode cX3_fitting 29 = .ok (.iload_n 3, 1) := dk_29 (dk_at dksX3_fitting_1 5 rfl rfl)
theorem dX3_fitting_30 : decode cX3_fitting 30 = .ok (.ishl, 1) := dk_120 (dk_at dksX3_fitting_1 6 rfl rfl)
theorem dX3_fitting_31 : decode cX3_fitting 31 = .ok (.ior, 1) := dk_128 (dk_at dksX3_fitting_1 7 rfl rfl)
theorem dX3_fitting_32 : decode cX3_fitting 32 = .ok (.istore_n 2, 1) := dk_61 (dk_at dksX3_fitting_1 8 rfl rfl)
theorem dX3_fitting_33 : decode cX3_fitting 33 = .ok (.iinc 3 1, 3) := dk_132 3 1 (dk_at dksX3_fitting_1 9 rfl rfl)
theorem dX3_fitting_36 : decode cX3_fitting 36 = .ok (.goto (-32), 3) := dk_167 255 224 (dk_at dksX3_fitting_1 12 rfl rfl)
theorem dX3_fitting_39 : decode cX3_fitting 39 = .ok (.iload_n 2, 1) := dk_28 (dk_at dksX3_fitting_1 15 rfl rfl)
theorem dX3_fitting_40 : decode cX3_fitting 40 = .ok (.ireturn, 1) := dk_172 (dk_at dksX3_fitting_1 16 rfl rfl)
abbrev cX3_bornBy : ByteArray := prog_8_method_27_code
def yX3_bornBy : MethodName := ⟨RX3, "bornBy", "(I)I"⟩
def dkwX3_bornBy_1 : List UInt8 := [160, 0, 9, 28, 4, 29, 120, 128, 61, 132, 3, 1, 167, 255, 224, 28, 172]
abbrev dktX3_bornBy_1 : List UInt8 := dkwX3_bornBy_1 ++ []
def dkwX3_bornBy_0 : List UInt8 := [3, 61, 3, 62, 29, 42, 180, 0, 3, 180, 0, 39, 180, 0, 67, 162, 0, 24, 42, 29, 182, 0, 123, 27]
abbrev dktX3_bornBy_0 : List UInt8 := dkwX3_bornBy_0 ++ dktX3_bornBy_1
theorem dksX3_bornBy_0 : cX3_bornBy.data.toList.drop 0 = dktX3_bornBy_0 := by decide +kernel
theorem dksX3_bornBy_1 : cX3_bornBy.data.toList.drop 24 = dktX3_bornBy_1 := dk_seg dksX3_bornBy_0 24 rfl rfl
theorem dX3_bornBy_0 : decode cX3_bornBy 0 = .ok (.iconst 0, 1) := dk_3 (dk_at dksX3_bornBy_0 0 rfl rfl)
theorem dX3_bornBy_1 : decode cX3_bornBy 1 = .ok (.istore_n 2, 1) := dk_61 (dk_at dksX3_bornBy_0 1 rfl rfl)
theorem dX3_bornBy_2 : decode cX3_bornBy 2 = .ok (.iconst 0, 1) := dk_3 (dk_at dksX3_bornBy_0 2 rfl rfl)
theorem dX3_bornBy_3 : decode cX3_bornBy 3 = .ok (.istore_n 3, 1) := dk_62 (dk_at dksX3_bornBy_0 3 rfl rfl)
theorem dX3_bornBy_4 : decode cX3_bornBy 4 = .ok (.iload_n 3, 1) := dk_29 (dk_at dksX3_bornBy_0 4 rfl rfl)
theorem dX3_bornBy_5 : decode cX3_bornBy 5 = .ok (.aload_n 0, 1) := dk_42 (dk_at dksX3_bornBy_0 5 rfl rfl)
theorem dX3_bornBy_6 : decode cX3_bornBy 6 = .ok (.getfield 3, 3) := dk_180 0 3 (dk_at dksX3_bornBy_0 6 rfl rfl)
theorem dX3_bornBy_9 : decode cX3_bornBy 9 = .ok (.getfield 39, 3) := dk_180 0 39 (dk_at dksX3_bornBy_0 9 rfl rfl)
theorem dX3_bornBy_12 : decode cX3_bornBy 12 = .ok (.getfield 67, 3) := dk_180 0 67 (dk_at dksX3_bornBy_0 12 rfl rfl)
theorem dX3_bornBy_15 : decode cX3_bornBy 15 = .ok (.if_icmp .ge 24, 3) := dk_162 0 24 (dk_at dksX3_bornBy_0 15 rfl rfl)
theorem dX3_bornBy_18 : decode cX3_bornBy 18 = .ok (.aload_n 0, 1) := dk_42 (dk_at dksX3_bornBy_0 18 rfl rfl)
theorem dX3_bornBy_19 : decode cX3_bornBy 19 = .ok (.iload_n 3, 1) := dk_29 (dk_at dksX3_bornBy_0 19 rfl rfl)
theorem dX3_bornBy_20 : decode cX3_bornBy 20 = .ok (.invokevirtual 123, 3) := dk_182 0 123 (dk_at dksX3_bornBy_0 20 rfl rfl)
theorem dX3_bornBy_23 : decode cX3_bornBy 23 = .ok (.iload_n 1, 1) := dk_27 (dk_at dksX3_bornBy_0 23 rfl rfl)
theorem dX3_bornBy_24 : decode cX3_bornBy 24 = .ok (.if_icmp .ne 9, 3) := dk_160 0 9 (dk_at dksX3_bornBy_1 0 rfl rfl)
theorem dX3_bornBy_27 : decode cX3_bornBy 27 = .ok (.iload_n 2, 1) := dk_28 (dk_at dksX3_bornBy_1 3 rfl rfl)
theorem dX3_bornBy_28 : decode cX3_bornBy 28 = .ok (.iconst 1, 1) := dk_4 (dk_at dksX3_bornBy_1 4 rfl rfl)
theorem dX3_bornBy_29 : decode cX3_bornBy 29 = .ok (.iload_n 3, 1) := dk_29 (dk_at dksX3_bornBy_1 5 rfl rfl)
theorem dX3_bornBy_30 : decode cX3_bornBy 30 = .ok (.ishl, 1) := dk_120 (dk_at dksX3_bornBy_1 6 rfl rfl)
theorem dX3_bornBy_31 : decode cX3_bornBy 31 = .ok (.ior, 1) := dk_128 (dk_at dksX3_bornBy_1 7 rfl rfl)
theorem dX3_bornBy_32 : decode cX3_bornBy 32 = .ok (.istore_n 2, 1) := dk_61 (dk_at dksX3_bornBy_1 8 rfl rfl)
theorem dX3_bornBy_33 : decode cX3_bornBy 33 = .ok (.iinc 3 1, 3) := dk_132 3 1 (dk_at dksX3_bornBy_1 9 rfl rfl)
theorem dX3_bornBy_36 : decode cX3_bornBy 36 = .ok (.goto (-32), 3) := dk_167 255 224 (dk_at dksX3_bornBy_1 12 rfl rfl)
theorem dX3_bornBy_39 : decode cX3_bornBy 39 = .ok (.iload_n 2, 1) := dk_28 (dk_at dksX3_bornBy_1 15 rfl rfl)
theorem dX3_bornBy_40 : decode cX3_bornBy 40 = .ok (.ireturn, 1) := dk_172 (dk_at dksX3_bornBy_1 16 rfl rfl)
abbrev cX3_archive : ByteArray := prog_8_method_11_code
def yX3_archive : MethodName := ⟨RX3, "archive", "(I)I"⟩
def dkwX3_archive_1 : List UInt8 := [27, 160, 0, 9, 28, 4, 29, 120, 128, 61, 132, 3, 1, 167, 255, 223, 28, 172]
abbrev dktX3_archive_1 : List UInt8 := dkwX3_archive_1 ++ []
def dkwX3_archive_0 : List UInt8 := [3, 61, 3, 62, 29, 42, 180, 0, 3, 180, 0, 39, 180, 0, 67, 162, 0, 25, 42, 180, 0, 22, 29, 46]
abbrev dktX3_archive_0 : List UInt8 := dkwX3_archive_0 ++ dktX3_archive_1
theorem dksX3_archive_0 : cX3_archive.data.toList.drop 0 = dktX3_archive_0 := by decide +kernel
theorem dksX3_archive_1 : cX3_archive.data.toList.drop 24 = dktX3_archive_1 := dk_seg dksX3_archive_0 24 rfl rfl
theorem dX3_archive_0 : decode cX3_archive 0 = .ok (.iconst 0, 1) := dk_3 (dk_at dksX3_archive_0 0 rfl rfl)
theorem dX3_archive_1 : decode cX3_archive 1 = .ok (.istore_n 2, 1) := dk_61 (dk_at dksX3_archive_0 1 rfl rfl)
theorem dX3_archive_2 : decode cX3_archive 2 = .ok (.iconst 0, 1) := dk_3 (dk_at dksX3_archive_0 2 rfl rfl)
theorem dX3_archive_3 : decode cX3_archive 3 = .ok (.istore_n 3, 1) := dk_62 (dk_at dksX3_archive_0 3 rfl rfl)
theorem dX3_archive_4 : decode cX3_archive 4 = .ok (.iload_n 3, 1) := dk_29 (dk_at dksX3_archive_0 4 rfl rfl)
theorem dX3_archive_5 : decode cX3_archive 5 = .ok (.aload_n 0, 1) := dk_42 (dk_at dksX3_archive_0 5 rfl rfl)
theorem dX3_archive_6 : decode cX3_archive 6 = .ok (.getfield 3, 3) := dk_180 0 3 (dk_at dksX3_archive_0 6 rfl rfl)
theorem dX3_archive_9 : decode cX3_archive 9 = .ok (.getfield 39, 3) := dk_180 0 39 (dk_at dksX3_archive_0 9 rfl rfl)
theorem dX3_archive_12 : decode cX3_archive 12 = .ok (.getfield 67, 3) := dk_180 0 67 (dk_at dksX3_archive_0 12 rfl rfl)
theorem dX3_archive_15 : decode cX3_archive 15 = .ok (.if_icmp .ge 25, 3) := dk_162 0 25 (dk_at dksX3_archive_0 15 rfl rfl)
theorem dX3_archive_18 : decode cX3_archive 18 = .ok (.aload_n 0, 1) := dk_42 (dk_at dksX3_archive_0 18 rfl rfl)
theorem dX3_archive_19 : decode cX3_archive 19 = .ok (.getfield 22, 3) := dk_180 0 22 (dk_at dksX3_archive_0 19 rfl rfl)
theorem dX3_archive_22 : decode cX3_archive 22 = .ok (.iload_n 3, 1) := dk_29 (dk_at dksX3_archive_0 22 rfl rfl)
theorem dX3_archive_23 : decode cX3_archive 23 = .ok (.iaload, 1) := dk_46 (dk_at dksX3_archive_0 23 rfl rfl)
theorem dX3_archive_24 : decode cX3_archive 24 = .ok (.iload_n 1, 1) := dk_27 (dk_at dksX3_archive_1 0 rfl rfl)
theorem dX3_archive_25 : decode cX3_archive 25 = .ok (.if_icmp .ne 9, 3) := dk_160 0 9 (dk_at dksX3_archive_1 1 rfl rfl)
theorem dX3_archive_28 : decode cX3_archive 28 = .ok (.iload_n 2, 1) := dk_28 (dk_at dksX3_archive_1 4 rfl rfl)
theorem dX3_archive_29 : decode cX3_archive 29 = .ok (.iconst 1, 1) := dk_4 (dk_at dksX3_archive_1 5 rfl rfl)
theorem dX3_archive_30 : decode cX3_archive 30 = .ok (.iload_n 3, 1) := dk_29 (dk_at dksX3_archive_1 6 rfl rfl)
theorem dX3_archive_31 : decode cX3_archive 31 = .ok (.ishl, 1) := dk_120 (dk_at dksX3_archive_1 7 rfl rfl)
theorem dX3_archive_32 : decode cX3_archive 32 = .ok (.ior, 1) := dk_128 (dk_at dksX3_archive_1 8 rfl rfl)
theorem dX3_archive_33 : decode cX3_archive 33 = .ok (.istore_n 2, 1) := dk_61 (dk_at dksX3_archive_1 9 rfl rfl)
theorem dX3_archive_34 : decode cX3_archive 34 = .ok (.iinc 3 1, 3) := dk_132 3 1 (dk_at dksX3_archive_1 10 rfl rfl)
theorem dX3_archive_37 : decode cX3_archive 37 = .ok (.goto (-33), 3) := dk_167 255 223 (dk_at dksX3_archive_1 13 rfl rfl)
theorem dX3_archive_40 : decode cX3_archive 40 = .ok (.iload_n 2, 1) := dk_28 (dk_at dksX3_archive_1 16 rfl rfl)
theorem dX3_archive_41 : decode cX3_archive 41 = .ok (.ireturn, 1) := dk_172 (dk_at dksX3_archive_1 17 rfl rfl)
abbrev cX3_take : ByteArray := prog_8_method_25_code
def yX3_take : MethodName := ⟨RX3, "take", "(II)V"⟩
def dkwX3_take_0 : List UInt8 := [42, 180, 0, 22, 28, 7, 27, 96, 79, 177]
abbrev dktX3_take_0 : List UInt8 := dkwX3_take_0 ++ []
theorem dksX3_take_0 : cX3_take.data.toList.drop 0 = dktX3_take_0 := by decide +kernel
theorem dX3_take_0 : decode cX3_take 0 = .ok (.aload_n 0, 1) := dk_42 (dk_at dksX3_take_0 0 rfl rfl)
theorem dX3_take_1 : decode cX3_take 1 = .ok (.getfield 22, 3) := dk_180 0 22 (dk_at dksX3_take_0 1 rfl rfl)
theorem dX3_take_4 : decode cX3_take 4 = .ok (.iload_n 2, 1) := dk_28 (dk_at dksX3_take_0 4 rfl rfl)
theorem dX3_take_5 : decode cX3_take 5 = .ok (.iconst 4, 1) := dk_7 (dk_at dksX3_take_0 5 rfl rfl)
theorem dX3_take_6 : decode cX3_take 6 = .ok (.iload_n 1, 1) := dk_27 (dk_at dksX3_take_0 6 rfl rfl)
theorem dX3_take_7 : decode cX3_take 7 = .ok (.iadd, 1) := dk_96 (dk_at dksX3_take_0 7 rfl rfl)
theorem dX3_take_8 : decode cX3_take 8 = .ok (.iastore, 1) := dk_79 (dk_at dksX3_take_0 8 rfl rfl)
theorem dX3_take_9 : decode cX3_take 9 = .ok (.return_, 1) := dk_177 (dk_at dksX3_take_0 9 rfl rfl)
abbrev cX3_burn : ByteArray := prog_8_method_24_code
def yX3_burn : MethodName := ⟨RX3, "burn", "(I)I"⟩
def dkwX3_burn_1 : List UInt8 := [184, 0, 95, 153, 0, 10, 42, 180, 0, 22, 29, 2, 79, 132, 3, 1, 167, 255, 224, 28, 172]
abbrev dktX3_burn_1 : List UInt8 := dkwX3_burn_1 ++ []
def dkwX3_burn_0 : List UInt8 := [42, 27, 182, 0, 146, 61, 3, 62, 29, 42, 180, 0, 3, 180, 0, 39, 180, 0, 67, 162, 0, 24, 28, 29]
abbrev dktX3_burn_0 : List UInt8 := dkwX3_burn_0 ++ dktX3_burn_1
theorem dksX3_burn_0 : cX3_burn.data.toList.drop 0 = dktX3_burn_0 := by decide +kernel
theorem dksX3_burn_1 : cX3_burn.data.toList.drop 24 = dktX3_burn_1 := dk_seg dksX3_burn_0 24 rfl rfl
theorem dX3_burn_0 : decode cX3_burn 0 = .ok (.aload_n 0, 1) := dk_42 (dk_at dksX3_burn_0 0 rfl rfl)
theorem dX3_burn_1 : decode cX3_burn 1 = .ok (.iload_n 1, 1) := dk_27 (dk_at dksX3_burn_0 1 rfl rfl)
theorem dX3_burn_2 : decode cX3_burn 2 = .ok (.invokevirtual 146, 3) := dk_182 0 146 (dk_at dksX3_burn_0 2 rfl rfl)
theorem dX3_burn_5 : decode cX3_burn 5 = .ok (.istore_n 2, 1) := dk_61 (dk_at dksX3_burn_0 5 rfl rfl)
theorem dX3_burn_6 : decode cX3_burn 6 = .ok (.iconst 0, 1) := dk_3 (dk_at dksX3_burn_0 6 rfl rfl)
theorem dX3_burn_7 : decode cX3_burn 7 = .ok (.istore_n 3, 1) := dk_62 (dk_at dksX3_burn_0 7 rfl rfl)
theorem dX3_burn_8 : decode cX3_burn 8 = .ok (.iload_n 3, 1) := dk_29 (dk_at dksX3_burn_0 8 rfl rfl)
theorem dX3_burn_9 : decode cX3_burn 9 = .ok (.aload_n 0, 1) := dk_42 (dk_at dksX3_burn_0 9 rfl rfl)
theorem dX3_burn_10 : decode cX3_burn 10 = .ok (.getfield 3, 3) := dk_180 0 3 (dk_at dksX3_burn_0 10 rfl rfl)
theorem dX3_burn_13 : decode cX3_burn 13 = .ok (.getfield 39, 3) := dk_180 0 39 (dk_at dksX3_burn_0 13 rfl rfl)
theorem dX3_burn_16 : decode cX3_burn 16 = .ok (.getfield 67, 3) := dk_180 0 67 (dk_at dksX3_burn_0 16 rfl rfl)
theorem dX3_burn_19 : decode cX3_burn 19 = .ok (.if_icmp .ge 24, 3) := dk_162 0 24 (dk_at dksX3_burn_0 19 rfl rfl)
theorem dX3_burn_22 : decode cX3_burn 22 = .ok (.iload_n 2, 1) := dk_28 (dk_at dksX3_burn_0 22 rfl rfl)
theorem dX3_burn_23 : decode cX3_burn 23 = .ok (.iload_n 3, 1) := dk_29 (dk_at dksX3_burn_0 23 rfl rfl)
theorem dX3_burn_24 : decode cX3_burn 24 = .ok (.invokestatic 95, 3) := dk_184 0 95 (dk_at dksX3_burn_1 0 rfl rfl)
theorem dX3_burn_27 : decode cX3_burn 27 = .ok (.ifCond .eq 10, 3) := dk_153 0 10 (dk_at dksX3_burn_1 3 rfl rfl)
theorem dX3_burn_30 : decode cX3_burn 30 = .ok (.aload_n 0, 1) := dk_42 (dk_at dksX3_burn_1 6 rfl rfl)
theorem dX3_burn_31 : decode cX3_burn 31 = .ok (.getfield 22, 3) := dk_180 0 22 (dk_at dksX3_burn_1 7 rfl rfl)
theorem dX3_burn_34 : decode cX3_burn 34 = .ok (.iload_n 3, 1) := dk_29 (dk_at dksX3_burn_1 10 rfl rfl)
theorem dX3_burn_35 : decode cX3_burn 35 = .ok (.iconst (-1), 1) := dk_2 (dk_at dksX3_burn_1 11 rfl rfl)
theorem dX3_burn_36 : decode cX3_burn 36 = .ok (.iastore, 1) := dk_79 (dk_at dksX3_burn_1 12 rfl rfl)
theorem dX3_burn_37 : decode cX3_burn 37 = .ok (.iinc 3 1, 3) := dk_132 3 1 (dk_at dksX3_burn_1 13 rfl rfl)
theorem dX3_burn_40 : decode cX3_burn 40 = .ok (.goto (-32), 3) := dk_167 255 224 (dk_at dksX3_burn_1 16 rfl rfl)
theorem dX3_burn_43 : decode cX3_burn 43 = .ok (.iload_n 2, 1) := dk_28 (dk_at dksX3_burn_1 19 rfl rfl)
theorem dX3_burn_44 : decode cX3_burn 44 = .ok (.ireturn, 1) := dk_172 (dk_at dksX3_burn_1 20 rfl rfl)
abbrev cX3_talk : ByteArray := prog_8_method_21_code
def yX3_talk : MethodName := ⟨RX3, "talk", "()LTwinInk$Service;"⟩
def dkwX3_talk_1 : List UInt8 := [182, 0, 129, 132, 1, 1, 167, 255, 230, 42, 176]
abbrev dktX3_talk_1 : List UInt8 := dkwX3_talk_1 ++ []
def dkwX3_talk_0 : List UInt8 := [3, 60, 27, 7, 162, 0, 27, 42, 42, 27, 182, 0, 126, 42, 42, 27, 182, 0, 126, 182, 0, 104]
abbrev dktX3_talk_0 : List UInt8 := dkwX3_talk_0 ++ dktX3_talk_1
theorem dksX3_talk_0 : cX3_talk.data.toList.drop 0 = dktX3_talk_0 := by decide +kernel
theorem dksX3_talk_1 : cX3_talk.data.toList.drop 22 = dktX3_talk_1 := dk_seg dksX3_talk_0 22 rfl rfl
theorem dX3_talk_0 : decode cX3_talk 0 = .ok (.iconst 0, 1) := dk_3 (dk_at dksX3_talk_0 0 rfl rfl)
theorem dX3_talk_1 : decode cX3_talk 1 = .ok (.istore_n 1, 1) := dk_60 (dk_at dksX3_talk_0 1 rfl rfl)
theorem dX3_talk_2 : decode cX3_talk 2 = .ok (.iload_n 1, 1) := dk_27 (dk_at dksX3_talk_0 2 rfl rfl)
theorem dX3_talk_3 : decode cX3_talk 3 = .ok (.iconst 4, 1) := dk_7 (dk_at dksX3_talk_0 3 rfl rfl)
theorem dX3_talk_4 : decode cX3_talk 4 = .ok (.if_icmp .ge 27, 3) := dk_162 0 27 (dk_at dksX3_talk_0 4 rfl rfl)
theorem dX3_talk_7 : decode cX3_talk 7 = .ok (.aload_n 0, 1) := dk_42 (dk_at dksX3_talk_0 7 rfl rfl)
theorem dX3_talk_8 : decode cX3_talk 8 = .ok (.aload_n 0, 1) := dk_42 (dk_at dksX3_talk_0 8 rfl rfl)
theorem dX3_talk_9 : decode cX3_talk 9 = .ok (.iload_n 1, 1) := dk_27 (dk_at dksX3_talk_0 9 rfl rfl)
theorem dX3_talk_10 : decode cX3_talk 10 = .ok (.invokevirtual 126, 3) := dk_182 0 126 (dk_at dksX3_talk_0 10 rfl rfl)
theorem dX3_talk_13 : decode cX3_talk 13 = .ok (.aload_n 0, 1) := dk_42 (dk_at dksX3_talk_0 13 rfl rfl)
theorem dX3_talk_14 : decode cX3_talk 14 = .ok (.aload_n 0, 1) := dk_42 (dk_at dksX3_talk_0 14 rfl rfl)
theorem dX3_talk_15 : decode cX3_talk 15 = .ok (.iload_n 1, 1) := dk_27 (dk_at dksX3_talk_0 15 rfl rfl)
theorem dX3_talk_16 : decode cX3_talk 16 = .ok (.invokevirtual 126, 3) := dk_182 0 126 (dk_at dksX3_talk_0 16 rfl rfl)
theorem dX3_talk_19 : decode cX3_talk 19 = .ok (.invokevirtual 104, 3) := dk_182 0 104 (dk_at dksX3_talk_0 19 rfl rfl)
theorem dX3_talk_22 : decode cX3_talk 22 = .ok (.invokevirtual 129, 3) := dk_182 0 129 (dk_at dksX3_talk_1 0 rfl rfl)
theorem dX3_talk_25 : decode cX3_talk 25 = .ok (.iinc 1 1, 3) := dk_132 1 1 (dk_at dksX3_talk_1 3 rfl rfl)
theorem dX3_talk_28 : decode cX3_talk 28 = .ok (.goto (-26), 3) := dk_167 255 230 (dk_at dksX3_talk_1 6 rfl rfl)
theorem dX3_talk_31 : decode cX3_talk 31 = .ok (.aload_n 0, 1) := dk_42 (dk_at dksX3_talk_1 9 rfl rfl)
theorem dX3_talk_32 : decode cX3_talk 32 = .ok (.areturn, 1) := dk_176 (dk_at dksX3_talk_1 10 rfl rfl)
theorem q140 : (Jvm.Cond.initialized "TwinInk$Service") ∈ lw_all := lw_g (lw_at lw_m1 6 rfl) rfl
theorem q211 : (Jvm.Cond.fieldLinkNest "TwinInk$Service" (81 : Nat) "TwinInk$Office" "words" "Ljava/util/List;" "TwinInk") ∈ lw_tbl := lw_at lw_m1 77 rfl
theorem q217 : (Jvm.Cond.fieldLinkNest "TwinInk$Service" (67 : Nat) "TwinInk$Office" "sheets" "I" "TwinInk") ∈ lw_tbl := lw_at lw_m1 83 rfl
theorem q219 : (Jvm.Cond.fieldLinkNest "TwinInk$Service" (64 : Nat) "TwinInk$Office" "slack" "I" "TwinInk") ∈ lw_tbl := lw_at lw_m1 85 rfl
theorem q222 : (Jvm.Cond.fieldLinkNest "TwinInk$Service" (107 : Nat) "TwinInk$Office" "lays" "LTwinInk$Form;" "TwinInk") ∈ lw_tbl := lw_at lw_m1 88 rfl
theorem q224 : (Jvm.Cond.fieldLinkNest "TwinInk$Service" (120 : Nat) "TwinInk$Office" "moulds" "LTwinInk$Form;" "TwinInk") ∈ lw_tbl := lw_at lw_m1 90 rfl
theorem q240 : (Jvm.Cond.instantiable "TwinInk$Service" (6 : Nat)) ∈ lw_all := lw_g (lw_at lw_m1 106 rfl) rfl
theorem q242 : (Jvm.Cond.instanceMethod ({ cls := "TwinInk$Service", name := "<init>", desc := "(LTwinInk;)V" } : Jvm.MethodName)) ∈ lw_all := lw_g (lw_at lw_m1 108 rfl) rfl
theorem q243 : (Jvm.Cond.code ({ cls := "TwinInk$Service", name := "<init>", desc := "(LTwinInk;)V" } : Jvm.MethodName) prog_8_method_1_code (2 : Nat) (Option.none : Option Jvm.ClassFile.FieldType)) ∈ lw_all := lw_g (lw_at lw_m1 109 rfl) rfl
theorem q244 : (Jvm.Cond.methodLink "TwinInk$Service" (9 : Nat) ({ cls := "java/lang/Object", name := "<init>", desc := "()V" } : Jvm.MethodName)) ∈ lw_all := lw_g (lw_at lw_m1 110 rfl) rfl
theorem q245 : (Jvm.Cond.fieldLink "TwinInk$Service" (15 : Nat) "TwinInk$Service" "left" "[I") ∈ lw_all := lw_g (lw_at lw_m1 111 rfl) rfl
theorem q248 : (Jvm.Cond.fieldLink "TwinInk$Service" (19 : Nat) "TwinInk$Service" "edge" "[I") ∈ lw_all := lw_g (lw_at lw_m1 114 rfl) rfl
theorem q251 : (Jvm.Cond.fieldLink "TwinInk$Service" (22 : Nat) "TwinInk$Service" "at" "[I") ∈ lw_all := lw_g (lw_at lw_m1 117 rfl) rfl
theorem q254 : (Jvm.Cond.fieldLink "TwinInk$Service" (25 : Nat) "TwinInk$Service" "knows" "[I") ∈ lw_all := lw_g (lw_at lw_m1 120 rfl) rfl
theorem q256 : (Jvm.Cond.fieldLink "TwinInk$Service" (35 : Nat) "TwinInk$Service" "day" "I") ∈ lw_all := lw_g (lw_at lw_m1 122 rfl) rfl
theorem q258 : (Jvm.Cond.fieldLink "TwinInk$Service" (3 : Nat) "TwinInk$Service" "this$0" "LTwinInk;") ∈ lw_all := lw_g (lw_at lw_m1 124 rfl) rfl
theorem q259 : (Jvm.Cond.laysFinal "TwinInk$Service" "TwinInk$Service" "left" "[I") ∈ lw_all := lw_g (lw_at lw_m1 125 rfl) rfl
theorem q260 : (Jvm.Cond.soleField "TwinInk$Service" "left") ∈ lw_all := lw_g (lw_at lw_m1 126 rfl) rfl
theorem q261 : (Jvm.Cond.laysFinal "TwinInk$Service" "TwinInk$Service" "edge" "[I") ∈ lw_all := lw_g (lw_at lw_m1 127 rfl) rfl
theorem q262 : (Jvm.Cond.soleField "TwinInk$Service" "edge") ∈ lw_all := lw_g (lw_at lw_m1 128 rfl) rfl
theorem q263 : (Jvm.Cond.laysFinal "TwinInk$Service" "TwinInk$Service" "at" "[I") ∈ lw_all := lw_g (lw_at lw_m1 129 rfl) rfl
theorem q264 : (Jvm.Cond.soleField "TwinInk$Service" "at") ∈ lw_all := lw_g (lw_at lw_m1 130 rfl) rfl
theorem q265 : (Jvm.Cond.laysFinal "TwinInk$Service" "TwinInk$Service" "knows" "[I") ∈ lw_all := lw_g (lw_at lw_m1 131 rfl) rfl
theorem q266 : (Jvm.Cond.soleField "TwinInk$Service" "knows") ∈ lw_all := lw_g (lw_at lw_m1 132 rfl) rfl
theorem q267 : (Jvm.Cond.lays "TwinInk$Service" "TwinInk$Service" "day" "I") ∈ lw_all := lw_g (lw_at lw_m1 133 rfl) rfl
theorem q268 : (Jvm.Cond.soleField "TwinInk$Service" "day") ∈ lw_all := lw_g (lw_at lw_m1 134 rfl) rfl
theorem q269 : (Jvm.Cond.laysFinal "TwinInk$Service" "TwinInk$Service" "this$0" "LTwinInk;") ∈ lw_all := lw_g (lw_at lw_m1 135 rfl) rfl
theorem q270 : (Jvm.Cond.soleField "TwinInk$Service" "this$0") ∈ lw_all := lw_g (lw_at lw_m1 136 rfl) rfl
theorem q271 : (Jvm.Cond.superclass "TwinInk$Service" "java/lang/Object") ∈ lw_all := lw_g (lw_at lw_m1 137 rfl) rfl
theorem q275 : (Jvm.Cond.fieldLinkNest "TwinInk$Service" (111 : Nat) "TwinInk" "values" "[I" "TwinInk") ∈ lw_tbl := lw_at lw_m1 141 rfl
theorem q276 : (Jvm.Cond.fieldLinkNest "TwinInk$Service" (39 : Nat) "TwinInk" "office" "LTwinInk$Office;" "TwinInk") ∈ lw_tbl := lw_at lw_m1 142 rfl
theorem q345 : (Jvm.Cond.instanceMethod ({ cls := "TwinInk$Service", name := "copy", desc := "()LTwinInk$Service;" } : Jvm.MethodName)) ∈ lw_all := lw_g (lw_at lw_m1 211 rfl) rfl
theorem q346 : (Jvm.Cond.selects "TwinInk$Service" ({ cls := "TwinInk$Service", name := "copy", desc := "()LTwinInk$Service;" } : Jvm.MethodName) ({ cls := "TwinInk$Service", name := "copy", desc := "()LTwinInk$Service;" } : Jvm.MethodName)) ∈ lw_all := lw_g (lw_at lw_m1 212 rfl) rfl
theorem q347 : (Jvm.Cond.code ({ cls := "TwinInk$Service", name := "copy", desc := "()LTwinInk$Service;" } : Jvm.MethodName) prog_8_method_2_code (1 : Nat) (Option.some (Jvm.ClassFile.FieldType.object "TwinInk$Service"))) ∈ lw_all := lw_g (lw_at lw_m1 213 rfl) rfl
theorem q348 : (Jvm.Cond.classLink "TwinInk$Service" (4 : Nat) "TwinInk$Service") ∈ lw_all := lw_g (lw_at lw_m1 214 rfl) rfl
theorem q349 : (Jvm.Cond.methodLink "TwinInk$Service" (28 : Nat) ({ cls := "TwinInk$Service", name := "<init>", desc := "(LTwinInk;)V" } : Jvm.MethodName)) ∈ lw_all := lw_g (lw_at lw_m1 215 rfl) rfl
theorem q350 : (Jvm.Cond.methodLink "TwinInk$Service" (31 : Nat) ({ cls := "TwinInk$Service", name := "be", desc := "(LTwinInk$Service;)LTwinInk$Service;" } : Jvm.MethodName)) ∈ lw_all := lw_g (lw_at lw_m1 216 rfl) rfl
theorem q351 : (Jvm.Cond.instanceMethod ({ cls := "TwinInk$Service", name := "be", desc := "(LTwinInk$Service;)LTwinInk$Service;" } : Jvm.MethodName)) ∈ lw_all := lw_g (lw_at lw_m1 217 rfl) rfl
theorem q352 : (Jvm.Cond.selects "TwinInk$Service" ({ cls := "TwinInk$Service", name := "be", desc := "(LTwinInk$Service;)LTwinInk$Service;" } : Jvm.MethodName) ({ cls := "TwinInk$Service", name := "be", desc := "(LTwinInk$Service;)LTwinInk$Service;" } : Jvm.MethodName)) ∈ lw_all := lw_g (lw_at lw_m1 218 rfl) rfl
theorem q353 : (Jvm.Cond.code ({ cls := "TwinInk$Service", name := "be", desc := "(LTwinInk$Service;)LTwinInk$Service;" } : Jvm.MethodName) prog_8_method_3_code (3 : Nat) (Option.some (Jvm.ClassFile.FieldType.object "TwinInk$Service"))) ∈ lw_all := lw_g (lw_at lw_m1 219 rfl) rfl
theorem q398 : (Jvm.Cond.selects "TwinInk$Service" ({ cls := "java/lang/Object", name := "getClass", desc := "()Ljava/lang/Class;" } : Jvm.MethodName) ({ cls := "java/lang/Object", name := "getClass", desc := "()Ljava/lang/Class;" } : Jvm.MethodName)) ∈ lw_all := lw_g (lw_at lw_m2 24 rfl) rfl
theorem q452 : (Jvm.Cond.instanceMethod ({ cls := "TwinInk$Service", name := "after", desc := "(I)LTwinInk$Service;" } : Jvm.MethodName)) ∈ lw_all := lw_g (lw_at lw_m2 78 rfl) rfl
theorem q453 : (Jvm.Cond.selects "TwinInk$Service" ({ cls := "TwinInk$Service", name := "after", desc := "(I)LTwinInk$Service;" } : Jvm.MethodName) ({ cls := "TwinInk$Service", name := "after", desc := "(I)LTwinInk$Service;" } : Jvm.MethodName)) ∈ lw_all := lw_g (lw_at lw_m2 79 rfl) rfl
theorem q454 : (Jvm.Cond.code ({ cls := "TwinInk$Service", name := "after", desc := "(I)LTwinInk$Service;" } : Jvm.MethodName) prog_8_method_23_code (3 : Nat) (Option.some (Jvm.ClassFile.FieldType.object "TwinInk$Service"))) ∈ lw_all := lw_g (lw_at lw_m2 80 rfl) rfl
theorem q455 : (Jvm.Cond.methodLink "TwinInk$Service" (142 : Nat) ({ cls := "TwinInk$Service", name := "pass", desc := "()LTwinInk$Service;" } : Jvm.MethodName)) ∈ lw_all := lw_g (lw_at lw_m2 81 rfl) rfl
theorem q456 : (Jvm.Cond.instanceMethod ({ cls := "TwinInk$Service", name := "pass", desc := "()LTwinInk$Service;" } : Jvm.MethodName)) ∈ lw_all := lw_g (lw_at lw_m2 82 rfl) rfl
theorem q457 : (Jvm.Cond.selects "TwinInk$Service" ({ cls := "TwinInk$Service", name := "pass", desc := "()LTwinInk$Service;" } : Jvm.MethodName) ({ cls := "TwinInk$Service", name := "pass", desc := "()LTwinInk$Service;" } : Jvm.MethodName)) ∈ lw_all := lw_g (lw_at lw_m2 83 rfl) rfl
theorem q458 : (Jvm.Cond.code ({ cls := "TwinInk$Service", name := "pass", desc := "()LTwinInk$Service;" } : Jvm.MethodName) prog_8_method_22_code (3 : Nat) (Option.some (Jvm.ClassFile.FieldType.object "TwinInk$Service"))) ∈ lw_all := lw_g (lw_at lw_m2 84 rfl) rfl
theorem q459 : (Jvm.Cond.methodLink "TwinInk$Service" (126 : Nat) ({ cls := "TwinInk$Service", name := "clerksIn", desc := "(I)I" } : Jvm.MethodName)) ∈ lw_all := lw_g (lw_at lw_m2 85 rfl) rfl
theorem q460 : (Jvm.Cond.instanceMethod ({ cls := "TwinInk$Service", name := "clerksIn", desc := "(I)I" } : Jvm.MethodName)) ∈ lw_all := lw_g (lw_at lw_m2 86 rfl) rfl
theorem q461 : (Jvm.Cond.selects "TwinInk$Service" ({ cls := "TwinInk$Service", name := "clerksIn", desc := "(I)I" } : Jvm.MethodName) ({ cls := "TwinInk$Service", name := "clerksIn", desc := "(I)I" } : Jvm.MethodName)) ∈ lw_all := lw_g (lw_at lw_m2 87 rfl) rfl
theorem q462 : (Jvm.Cond.code ({ cls := "TwinInk$Service", name := "clerksIn", desc := "(I)I" } : Jvm.MethodName) prog_8_method_13_code (4 : Nat) (Option.some Jvm.ClassFile.FieldType.int)) ∈ lw_all := lw_g (lw_at lw_m2 88 rfl) rfl
theorem q463 : (Jvm.Cond.methodLink "TwinInk$Service" (77 : Nat) ({ cls := "TwinInk$Office", name := "clerks", desc := "()I" } : Jvm.MethodName)) ∈ lw_all := lw_g (lw_at lw_m2 89 rfl) rfl
theorem q469 : (Jvm.Cond.methodLink "TwinInk$Service" (49 : Nat) ({ cls := "TwinInk$Service", name := "town", desc := "(I)I" } : Jvm.MethodName)) ∈ lw_all := lw_g (lw_at lw_m2 95 rfl) rfl
theorem q470 : (Jvm.Cond.instanceMethod ({ cls := "TwinInk$Service", name := "town", desc := "(I)I" } : Jvm.MethodName)) ∈ lw_all := lw_g (lw_at lw_m2 96 rfl) rfl
theorem q471 : (Jvm.Cond.selects "TwinInk$Service" ({ cls := "TwinInk$Service", name := "town", desc := "(I)I" } : Jvm.MethodName) ({ cls := "TwinInk$Service", name := "town", desc := "(I)I" } : Jvm.MethodName)) ∈ lw_all := lw_g (lw_at lw_m2 97 rfl) rfl
theorem q472 : (Jvm.Cond.code ({ cls := "TwinInk$Service", name := "town", desc := "(I)I" } : Jvm.MethodName) prog_8_method_4_code (2 : Nat) (Option.some Jvm.ClassFile.FieldType.int)) ∈ lw_all := lw_g (lw_at lw_m2 98 rfl) rfl
theorem q473 : (Jvm.Cond.methodLink "TwinInk$Service" (43 : Nat) ({ cls := "TwinInk$Office", name := "town", desc := "(II)I" } : Jvm.MethodName)) ∈ lw_all := lw_g (lw_at lw_m2 99 rfl) rfl
theorem q496 : (Jvm.Cond.methodLink "TwinInk$Service" (133 : Nat) ({ cls := "TwinInk$Service", name := "lays", desc := "(II)Z" } : Jvm.MethodName)) ∈ lw_all := lw_g (lw_at lw_m2 122 rfl) rfl
theorem q497 : (Jvm.Cond.privateMethod ({ cls := "TwinInk$Service", name := "lays", desc := "(II)Z" } : Jvm.MethodName)) ∈ lw_tbl := lw_at lw_m2 123 rfl
theorem q498 : (Jvm.Cond.instanceMethod ({ cls := "TwinInk$Service", name := "lays", desc := "(II)Z" } : Jvm.MethodName)) ∈ lw_all := lw_g (lw_at lw_m2 124 rfl) rfl
theorem q499 : (Jvm.Cond.code ({ cls := "TwinInk$Service", name := "lays", desc := "(II)Z" } : Jvm.MethodName) prog_8_method_18_code (3 : Nat) (Option.some Jvm.ClassFile.FieldType.boolean)) ∈ lw_all := lw_g (lw_at lw_m2 125 rfl) rfl
theorem q500 : (Jvm.Cond.methodLink "TwinInk$Service" (98 : Nat) ({ cls := "TwinInk$Service", name := "sheetsIn", desc := "(I)I" } : Jvm.MethodName)) ∈ lw_all := lw_g (lw_at lw_m2 126 rfl) rfl
theorem q501 : (Jvm.Cond.instanceMethod ({ cls := "TwinInk$Service", name := "sheetsIn", desc := "(I)I" } : Jvm.MethodName)) ∈ lw_all := lw_g (lw_at lw_m2 127 rfl) rfl
theorem q502 : (Jvm.Cond.selects "TwinInk$Service" ({ cls := "TwinInk$Service", name := "sheetsIn", desc := "(I)I" } : Jvm.MethodName) ({ cls := "TwinInk$Service", name := "sheetsIn", desc := "(I)I" } : Jvm.MethodName)) ∈ lw_all := lw_g (lw_at lw_m2 128 rfl) rfl
theorem q503 : (Jvm.Cond.code ({ cls := "TwinInk$Service", name := "sheetsIn", desc := "(I)I" } : Jvm.MethodName) prog_8_method_12_code (4 : Nat) (Option.some Jvm.ClassFile.FieldType.int)) ∈ lw_all := lw_g (lw_at lw_m2 129 rfl) rfl
theorem q504 : (Jvm.Cond.methodLink "TwinInk$Service" (74 : Nat) ({ cls := "TwinInk$Service", name := "where", desc := "(I)I" } : Jvm.MethodName)) ∈ lw_all := lw_g (lw_at lw_m2 130 rfl) rfl
theorem q505 : (Jvm.Cond.instanceMethod ({ cls := "TwinInk$Service", name := "where", desc := "(I)I" } : Jvm.MethodName)) ∈ lw_all := lw_g (lw_at lw_m2 131 rfl) rfl
theorem q506 : (Jvm.Cond.selects "TwinInk$Service" ({ cls := "TwinInk$Service", name := "where", desc := "(I)I" } : Jvm.MethodName) ({ cls := "TwinInk$Service", name := "where", desc := "(I)I" } : Jvm.MethodName)) ∈ lw_all := lw_g (lw_at lw_m2 132 rfl) rfl
theorem q507 : (Jvm.Cond.code ({ cls := "TwinInk$Service", name := "where", desc := "(I)I" } : Jvm.MethodName) prog_8_method_7_code (2 : Nat) (Option.some Jvm.ClassFile.FieldType.int)) ∈ lw_all := lw_g (lw_at lw_m2 133 rfl) rfl
theorem q508 : (Jvm.Cond.methodLink "TwinInk$Service" (52 : Nat) ({ cls := "java/lang/Integer", name := "bitCount", desc := "(I)I" } : Jvm.MethodName)) ∈ lw_all := lw_g (lw_at lw_m2 134 rfl) rfl
theorem q514 : (Jvm.Cond.methodLink "TwinInk$Service" (104 : Nat) ({ cls := "TwinInk$Service", name := "known", desc := "(I)I" } : Jvm.MethodName)) ∈ lw_all := lw_g (lw_at lw_m2 140 rfl) rfl
theorem q515 : (Jvm.Cond.instanceMethod ({ cls := "TwinInk$Service", name := "known", desc := "(I)I" } : Jvm.MethodName)) ∈ lw_all := lw_g (lw_at lw_m2 141 rfl) rfl
theorem q516 : (Jvm.Cond.selects "TwinInk$Service" ({ cls := "TwinInk$Service", name := "known", desc := "(I)I" } : Jvm.MethodName) ({ cls := "TwinInk$Service", name := "known", desc := "(I)I" } : Jvm.MethodName)) ∈ lw_all := lw_g (lw_at lw_m2 142 rfl) rfl
theorem q517 : (Jvm.Cond.code ({ cls := "TwinInk$Service", name := "known", desc := "(I)I" } : Jvm.MethodName) prog_8_method_16_code (4 : Nat) (Option.some Jvm.ClassFile.FieldType.int)) ∈ lw_all := lw_g (lw_at lw_m2 143 rfl) rfl
theorem q518 : (Jvm.Cond.methodLinkNest "TwinInk$Service" (95 : Nat) ({ cls := "TwinInk", name := "isOf", desc := "(II)Z" } : Jvm.MethodName) "TwinInk") ∈ lw_tbl := lw_at lw_m2 144 rfl
theorem q521 : (Jvm.Cond.interfaceEntry "TwinInk$Service" (114 : Nat)) ∈ lw_tbl := lw_at lw_m2 147 rfl
theorem q522 : (Jvm.Cond.methodLink "TwinInk$Service" (114 : Nat) ({ cls := "TwinInk$Form", name := "of", desc := "([I)I" } : Jvm.MethodName)) ∈ lw_all := lw_g (lw_at lw_m2 148 rfl) rfl
theorem q588 : (Jvm.Cond.methodLink "TwinInk$Service" (135 : Nat) ({ cls := "TwinInk$Service", name := "shows", desc := "(I)I" } : Jvm.MethodName)) ∈ lw_all := lw_g (lw_at lw_m2 214 rfl) rfl
theorem q589 : (Jvm.Cond.instanceMethod ({ cls := "TwinInk$Service", name := "shows", desc := "(I)I" } : Jvm.MethodName)) ∈ lw_all := lw_g (lw_at lw_m2 215 rfl) rfl
theorem q590 : (Jvm.Cond.selects "TwinInk$Service" ({ cls := "TwinInk$Service", name := "shows", desc := "(I)I" } : Jvm.MethodName) ({ cls := "TwinInk$Service", name := "shows", desc := "(I)I" } : Jvm.MethodName)) ∈ lw_all := lw_g (lw_at lw_m2 216 rfl) rfl
theorem q591 : (Jvm.Cond.code ({ cls := "TwinInk$Service", name := "shows", desc := "(I)I" } : Jvm.MethodName) prog_8_method_15_code (2 : Nat) (Option.some Jvm.ClassFile.FieldType.int)) ∈ lw_all := lw_g (lw_at lw_m2 217 rfl) rfl
theorem q592 : (Jvm.Cond.methodLink "TwinInk$Service" (101 : Nat) ({ cls := "TwinInk$Service", name := "readOf", desc := "(I)I" } : Jvm.MethodName)) ∈ lw_all := lw_g (lw_at lw_m2 218 rfl) rfl
theorem q593 : (Jvm.Cond.instanceMethod ({ cls := "TwinInk$Service", name := "readOf", desc := "(I)I" } : Jvm.MethodName)) ∈ lw_all := lw_g (lw_at lw_m2 219 rfl) rfl
theorem q594 : (Jvm.Cond.selects "TwinInk$Service" ({ cls := "TwinInk$Service", name := "readOf", desc := "(I)I" } : Jvm.MethodName) ({ cls := "TwinInk$Service", name := "readOf", desc := "(I)I" } : Jvm.MethodName)) ∈ lw_all := lw_g (lw_at lw_m2 220 rfl) rfl
theorem q595 : (Jvm.Cond.code ({ cls := "TwinInk$Service", name := "readOf", desc := "(I)I" } : Jvm.MethodName) prog_8_method_14_code (6 : Nat) (Option.some Jvm.ClassFile.FieldType.int)) ∈ lw_all := lw_g (lw_at lw_m2 221 rfl) rfl
theorem q596 : (Jvm.Cond.interfaceEntry "TwinInk$Service" (85 : Nat)) ∈ lw_tbl := lw_at lw_m2 222 rfl
theorem q597 : (Jvm.Cond.methodLink "TwinInk$Service" (85 : Nat) ({ cls := "java/util/List", name := "size", desc := "()I" } : Jvm.MethodName)) ∈ lw_all := lw_g (lw_at lw_m2 223 rfl) rfl
theorem q598 : (Jvm.Cond.interfaceEntry "TwinInk$Service" (90 : Nat)) ∈ lw_tbl := lw_at lw_m2 224 rfl
theorem q599 : (Jvm.Cond.methodLink "TwinInk$Service" (90 : Nat) ({ cls := "java/util/List", name := "get", desc := "(I)Ljava/lang/Object;" } : Jvm.MethodName)) ∈ lw_all := lw_g (lw_at lw_m2 225 rfl) rfl
theorem q600 : (Jvm.Cond.classLink "TwinInk$Service" (94 : Nat) "[I") ∈ lw_all := lw_g (lw_at lw_m2 226 rfl) rfl
theorem q601 : (Jvm.Cond.methodLink "TwinInk$Service" (70 : Nat) ({ cls := "TwinInk$Service", name := "fits", desc := "(II)Z" } : Jvm.MethodName)) ∈ lw_all := lw_g (lw_at lw_m2 227 rfl) rfl
theorem q602 : (Jvm.Cond.instanceMethod ({ cls := "TwinInk$Service", name := "fits", desc := "(II)Z" } : Jvm.MethodName)) ∈ lw_all := lw_g (lw_at lw_m2 228 rfl) rfl
theorem q603 : (Jvm.Cond.selects "TwinInk$Service" ({ cls := "TwinInk$Service", name := "fits", desc := "(II)Z" } : Jvm.MethodName) ({ cls := "TwinInk$Service", name := "fits", desc := "(II)Z" } : Jvm.MethodName)) ∈ lw_all := lw_g (lw_at lw_m2 229 rfl) rfl
theorem q604 : (Jvm.Cond.code ({ cls := "TwinInk$Service", name := "fits", desc := "(II)Z" } : Jvm.MethodName) prog_8_method_9_code (3 : Nat) (Option.some Jvm.ClassFile.FieldType.boolean)) ∈ lw_all := lw_g (lw_at lw_m2 230 rfl) rfl
theorem q605 : (Jvm.Cond.methodLink "TwinInk$Service" (57 : Nat) ({ cls := "TwinInk$Service", name := "isBurnt", desc := "(I)Z" } : Jvm.MethodName)) ∈ lw_all := lw_g (lw_at lw_m2 231 rfl) rfl
theorem q606 : (Jvm.Cond.instanceMethod ({ cls := "TwinInk$Service", name := "isBurnt", desc := "(I)Z" } : Jvm.MethodName)) ∈ lw_all := lw_g (lw_at lw_m2 232 rfl) rfl
theorem q607 : (Jvm.Cond.selects "TwinInk$Service" ({ cls := "TwinInk$Service", name := "isBurnt", desc := "(I)Z" } : Jvm.MethodName) ({ cls := "TwinInk$Service", name := "isBurnt", desc := "(I)Z" } : Jvm.MethodName)) ∈ lw_all := lw_g (lw_at lw_m2 233 rfl) rfl
theorem q608 : (Jvm.Cond.code ({ cls := "TwinInk$Service", name := "isBurnt", desc := "(I)Z" } : Jvm.MethodName) prog_8_method_5_code (2 : Nat) (Option.some Jvm.ClassFile.FieldType.boolean)) ∈ lw_all := lw_g (lw_at lw_m2 234 rfl) rfl
theorem q609 : (Jvm.Cond.methodLink "TwinInk$Service" (61 : Nat) ({ cls := "TwinInk$Service", name := "far", desc := "(II)I" } : Jvm.MethodName)) ∈ lw_all := lw_g (lw_at lw_m2 235 rfl) rfl
theorem q610 : (Jvm.Cond.instanceMethod ({ cls := "TwinInk$Service", name := "far", desc := "(II)I" } : Jvm.MethodName)) ∈ lw_all := lw_g (lw_at lw_m2 236 rfl) rfl
theorem q611 : (Jvm.Cond.selects "TwinInk$Service" ({ cls := "TwinInk$Service", name := "far", desc := "(II)I" } : Jvm.MethodName) ({ cls := "TwinInk$Service", name := "far", desc := "(II)I" } : Jvm.MethodName)) ∈ lw_all := lw_g (lw_at lw_m2 237 rfl) rfl
theorem q612 : (Jvm.Cond.code ({ cls := "TwinInk$Service", name := "far", desc := "(II)I" } : Jvm.MethodName) prog_8_method_8_code (3 : Nat) (Option.some Jvm.ClassFile.FieldType.int)) ∈ lw_all := lw_g (lw_at lw_m2 238 rfl) rfl
theorem q613 : (Jvm.Cond.methodLink "TwinInk$Service" (129 : Nat) ({ cls := "TwinInk$Service", name := "learn", desc := "(II)V" } : Jvm.MethodName)) ∈ lw_all := lw_g (lw_at lw_m2 239 rfl) rfl
theorem q614 : (Jvm.Cond.privateMethod ({ cls := "TwinInk$Service", name := "learn", desc := "(II)V" } : Jvm.MethodName)) ∈ lw_tbl := lw_at lw_m3 0 rfl
theorem q615 : (Jvm.Cond.instanceMethod ({ cls := "TwinInk$Service", name := "learn", desc := "(II)V" } : Jvm.MethodName)) ∈ lw_all := lw_g (lw_at lw_m3 1 rfl) rfl
theorem q616 : (Jvm.Cond.code ({ cls := "TwinInk$Service", name := "learn", desc := "(II)V" } : Jvm.MethodName) prog_8_method_20_code (4 : Nat) (Option.none : Option Jvm.ClassFile.FieldType)) ∈ lw_all := lw_g (lw_at lw_m3 2 rfl) rfl
theorem q617 : (Jvm.Cond.methodLink "TwinInk$Service" (138 : Nat) ({ cls := "TwinInk$Service", name := "grow", desc := "(I)V" } : Jvm.MethodName)) ∈ lw_all := lw_g (lw_at lw_m3 3 rfl) rfl
theorem q618 : (Jvm.Cond.privateMethod ({ cls := "TwinInk$Service", name := "grow", desc := "(I)V" } : Jvm.MethodName)) ∈ lw_tbl := lw_at lw_m3 4 rfl
theorem q619 : (Jvm.Cond.instanceMethod ({ cls := "TwinInk$Service", name := "grow", desc := "(I)V" } : Jvm.MethodName)) ∈ lw_all := lw_g (lw_at lw_m3 5 rfl) rfl
theorem q620 : (Jvm.Cond.code ({ cls := "TwinInk$Service", name := "grow", desc := "(I)V" } : Jvm.MethodName) prog_8_method_19_code (3 : Nat) (Option.none : Option Jvm.ClassFile.FieldType)) ∈ lw_all := lw_g (lw_at lw_m3 6 rfl) rfl
theorem q621 : (Jvm.Cond.methodLink "TwinInk$Service" (123 : Nat) ({ cls := "TwinInk$Service", name := "bearer", desc := "(I)I" } : Jvm.MethodName)) ∈ lw_all := lw_g (lw_at lw_m3 7 rfl) rfl
theorem q622 : (Jvm.Cond.instanceMethod ({ cls := "TwinInk$Service", name := "bearer", desc := "(I)I" } : Jvm.MethodName)) ∈ lw_all := lw_g (lw_at lw_m3 8 rfl) rfl
theorem q623 : (Jvm.Cond.selects "TwinInk$Service" ({ cls := "TwinInk$Service", name := "bearer", desc := "(I)I" } : Jvm.MethodName) ({ cls := "TwinInk$Service", name := "bearer", desc := "(I)I" } : Jvm.MethodName)) ∈ lw_all := lw_g (lw_at lw_m3 9 rfl) rfl
theorem q624 : (Jvm.Cond.code ({ cls := "TwinInk$Service", name := "bearer", desc := "(I)I" } : Jvm.MethodName) prog_8_method_6_code (2 : Nat) (Option.some Jvm.ClassFile.FieldType.int)) ∈ lw_all := lw_g (lw_at lw_m3 10 rfl) rfl
theorem q1233 : (Jvm.Cond.instanceMethod ({ cls := "TwinInk$Service", name := "burnt", desc := "()I" } : Jvm.MethodName)) ∈ lw_all := lw_g (lw_at lw_m5 139 rfl) rfl
theorem q1234 : (Jvm.Cond.selects "TwinInk$Service" ({ cls := "TwinInk$Service", name := "burnt", desc := "()I" } : Jvm.MethodName) ({ cls := "TwinInk$Service", name := "burnt", desc := "()I" } : Jvm.MethodName)) ∈ lw_all := lw_g (lw_at lw_m5 140 rfl) rfl
theorem q1235 : (Jvm.Cond.code ({ cls := "TwinInk$Service", name := "burnt", desc := "()I" } : Jvm.MethodName) prog_8_method_28_code (3 : Nat) (Option.some Jvm.ClassFile.FieldType.int)) ∈ lw_all := lw_g (lw_at lw_m5 141 rfl) rfl
theorem q1237 : (Jvm.Cond.instanceMethod ({ cls := "TwinInk$Service", name := "borne", desc := "()I" } : Jvm.MethodName)) ∈ lw_all := lw_g (lw_at lw_m5 143 rfl) rfl
theorem q1238 : (Jvm.Cond.selects "TwinInk$Service" ({ cls := "TwinInk$Service", name := "borne", desc := "()I" } : Jvm.MethodName) ({ cls := "TwinInk$Service", name := "borne", desc := "()I" } : Jvm.MethodName)) ∈ lw_all := lw_g (lw_at lw_m5 144 rfl) rfl
theorem q1239 : (Jvm.Cond.code ({ cls := "TwinInk$Service", name := "borne", desc := "()I" } : Jvm.MethodName) prog_8_method_26_code (3 : Nat) (Option.some Jvm.ClassFile.FieldType.int)) ∈ lw_all := lw_g (lw_at lw_m5 145 rfl) rfl
theorem q1241 : (Jvm.Cond.instanceMethod ({ cls := "TwinInk$Service", name := "read", desc := "()I" } : Jvm.MethodName)) ∈ lw_all := lw_g (lw_at lw_m5 147 rfl) rfl
theorem q1242 : (Jvm.Cond.selects "TwinInk$Service" ({ cls := "TwinInk$Service", name := "read", desc := "()I" } : Jvm.MethodName) ({ cls := "TwinInk$Service", name := "read", desc := "()I" } : Jvm.MethodName)) ∈ lw_all := lw_g (lw_at lw_m5 148 rfl) rfl
theorem q1243 : (Jvm.Cond.code ({ cls := "TwinInk$Service", name := "read", desc := "()I" } : Jvm.MethodName) prog_8_method_17_code (1 : Nat) (Option.some Jvm.ClassFile.FieldType.int)) ∈ lw_all := lw_g (lw_at lw_m5 149 rfl) rfl
theorem q1289 : (Jvm.Cond.instanceMethod ({ cls := "TwinInk$Service", name := "fitting", desc := "(I)I" } : Jvm.MethodName)) ∈ lw_all := lw_g (lw_at lw_m5 195 rfl) rfl
theorem q1290 : (Jvm.Cond.selects "TwinInk$Service" ({ cls := "TwinInk$Service", name := "fitting", desc := "(I)I" } : Jvm.MethodName) ({ cls := "TwinInk$Service", name := "fitting", desc := "(I)I" } : Jvm.MethodName)) ∈ lw_all := lw_g (lw_at lw_m5 196 rfl) rfl
theorem q1291 : (Jvm.Cond.code ({ cls := "TwinInk$Service", name := "fitting", desc := "(I)I" } : Jvm.MethodName) prog_8_method_10_code (4 : Nat) (Option.some Jvm.ClassFile.FieldType.int)) ∈ lw_all := lw_g (lw_at lw_m5 197 rfl) rfl
theorem q1305 : (Jvm.Cond.instanceMethod ({ cls := "TwinInk$Service", name := "bornBy", desc := "(I)I" } : Jvm.MethodName)) ∈ lw_all := lw_g (lw_at lw_m5 211 rfl) rfl
theorem q1306 : (Jvm.Cond.selects "TwinInk$Service" ({ cls := "TwinInk$Service", name := "bornBy", desc := "(I)I" } : Jvm.MethodName) ({ cls := "TwinInk$Service", name := "bornBy", desc := "(I)I" } : Jvm.MethodName)) ∈ lw_all := lw_g (lw_at lw_m5 212 rfl) rfl
theorem q1307 : (Jvm.Cond.code ({ cls := "TwinInk$Service", name := "bornBy", desc := "(I)I" } : Jvm.MethodName) prog_8_method_27_code (4 : Nat) (Option.some Jvm.ClassFile.FieldType.int)) ∈ lw_all := lw_g (lw_at lw_m5 213 rfl) rfl
theorem q1340 : (Jvm.Cond.instanceMethod ({ cls := "TwinInk$Service", name := "archive", desc := "(I)I" } : Jvm.MethodName)) ∈ lw_all := lw_g (lw_at lw_m6 6 rfl) rfl
theorem q1341 : (Jvm.Cond.selects "TwinInk$Service" ({ cls := "TwinInk$Service", name := "archive", desc := "(I)I" } : Jvm.MethodName) ({ cls := "TwinInk$Service", name := "archive", desc := "(I)I" } : Jvm.MethodName)) ∈ lw_all := lw_g (lw_at lw_m6 7 rfl) rfl
theorem q1342 : (Jvm.Cond.code ({ cls := "TwinInk$Service", name := "archive", desc := "(I)I" } : Jvm.MethodName) prog_8_method_11_code (4 : Nat) (Option.some Jvm.ClassFile.FieldType.int)) ∈ lw_all := lw_g (lw_at lw_m6 8 rfl) rfl
theorem q1365 : (Jvm.Cond.instanceMethod ({ cls := "TwinInk$Service", name := "take", desc := "(II)V" } : Jvm.MethodName)) ∈ lw_all := lw_g (lw_at lw_m6 31 rfl) rfl
theorem q1366 : (Jvm.Cond.selects "TwinInk$Service" ({ cls := "TwinInk$Service", name := "take", desc := "(II)V" } : Jvm.MethodName) ({ cls := "TwinInk$Service", name := "take", desc := "(II)V" } : Jvm.MethodName)) ∈ lw_all := lw_g (lw_at lw_m6 32 rfl) rfl
theorem q1367 : (Jvm.Cond.code ({ cls := "TwinInk$Service", name := "take", desc := "(II)V" } : Jvm.MethodName) prog_8_method_25_code (3 : Nat) (Option.none : Option Jvm.ClassFile.FieldType)) ∈ lw_all := lw_g (lw_at lw_m6 33 rfl) rfl
theorem q1391 : (Jvm.Cond.instanceMethod ({ cls := "TwinInk$Service", name := "burn", desc := "(I)I" } : Jvm.MethodName)) ∈ lw_all := lw_g (lw_at lw_m6 57 rfl) rfl
theorem q1392 : (Jvm.Cond.selects "TwinInk$Service" ({ cls := "TwinInk$Service", name := "burn", desc := "(I)I" } : Jvm.MethodName) ({ cls := "TwinInk$Service", name := "burn", desc := "(I)I" } : Jvm.MethodName)) ∈ lw_all := lw_g (lw_at lw_m6 58 rfl) rfl
theorem q1393 : (Jvm.Cond.code ({ cls := "TwinInk$Service", name := "burn", desc := "(I)I" } : Jvm.MethodName) prog_8_method_24_code (4 : Nat) (Option.some Jvm.ClassFile.FieldType.int)) ∈ lw_all := lw_g (lw_at lw_m6 59 rfl) rfl
theorem q1394 : (Jvm.Cond.methodLink "TwinInk$Service" (146 : Nat) ({ cls := "TwinInk$Service", name := "archive", desc := "(I)I" } : Jvm.MethodName)) ∈ lw_all := lw_g (lw_at lw_m6 60 rfl) rfl
theorem q1426 : (Jvm.Cond.instanceMethod ({ cls := "TwinInk$Service", name := "talk", desc := "()LTwinInk$Service;" } : Jvm.MethodName)) ∈ lw_all := lw_g (lw_at lw_m6 92 rfl) rfl
theorem q1427 : (Jvm.Cond.selects "TwinInk$Service" ({ cls := "TwinInk$Service", name := "talk", desc := "()LTwinInk$Service;" } : Jvm.MethodName) ({ cls := "TwinInk$Service", name := "talk", desc := "()LTwinInk$Service;" } : Jvm.MethodName)) ∈ lw_all := lw_g (lw_at lw_m6 93 rfl) rfl
theorem q1428 : (Jvm.Cond.code ({ cls := "TwinInk$Service", name := "talk", desc := "()LTwinInk$Service;" } : Jvm.MethodName) prog_8_method_21_code (2 : Nat) (Option.some (Jvm.ClassFile.FieldType.object "TwinInk$Service"))) ∈ lw_all := lw_g (lw_at lw_m6 94 rfl) rfl
theorem q2360 : (Jvm.Cond.castable "TwinInk$Service" "java/lang/Object") ∈ lw_tbl := lw_at lw_m10 66 rfl
theorem in_X3 : ∀ w ∈ wsX30, w ∈ lw_all := lw_in wsX30 [259, 261, 263, 265, 267, 269] (by decide +kernel) (by decide +kernel)

/-! TwinInk$Reader -/
set_option maxRecDepth 100000
def RX5 : String := "TwinInk$Reader"
def TX5 : u_T := fun k => match k with
  | 0 => ("TwinInk$Reader", "size", "I", true)
  | 1 => ("TwinInk$Reader", "made", "LTwinInk$Office;", true)
  | 2 => ("TwinInk$Reader", "begun", "LTwinInk$Service;", true)
  | 3 => ("TwinInk$Reader", "once", "[Ljava/lang/String;", true)
  | 4 => ("TwinInk$Reader", "ofLays", "[Ljava/lang/String;", true)
  | 5 => ("TwinInk$Reader", "ofMoulds", "[Ljava/lang/String;", true)
  | 6 => ("TwinInk$Reader", "names", "[Ljava/lang/String;", false)
  | 7 => ("TwinInk$Reader", "at", "I", false)
  | 8 => ("TwinInk$Reader", "token", "I", false)
  | 9 => ("TwinInk$Reader", "begins", "I", false)
  | 10 => ("TwinInk$Reader", "ends", "I", false)
  | 11 => ("TwinInk$Reader", "number", "I", false)
  | 12 => ("TwinInk$Reader", "done", "I", false)
  | _ => ("TwinInk$Reader", "this$0", "LTwinInk;", true)
def tyX5 : Nat → FieldType := fun k => match k with
  | 0 => .int
  | 1 => .object "TwinInk$Office"
  | 2 => .object "TwinInk$Service"
  | 3 => .array (.object "java/lang/String")
  | 4 => .array (.object "java/lang/String")
  | 5 => .array (.object "java/lang/String")
  | 6 => .array (.object "java/lang/String")
  | 7 => .int
  | 8 => .int
  | 9 => .int
  | 10 => .int
  | 11 => .int
  | 12 => .int
  | _ => .object "TwinInk"
abbrev wsX50 : List Cond := u_ws RX5 TX5 14
set_option maxRecDepth 100000 in
theorem nmX5 : ∀ a, a < 14 → ∀ b, b < 14 → a ≠ b → (TX5 a).2.1 ≠ (TX5 b).2.1 := by decide +kernel
set_option maxRecDepth 100000 in
theorem tyX5_ok : ∀ k, k < 14 → parseFieldDescriptor (TX5 k).2.2.1 = some (tyX5 k) := by decide +kernel
abbrev cX5_init : ByteArray := prog_7_method_1_code
def yX5_init : MethodName := ⟨RX5, "<init>", "(LTwinInk;I)V"⟩
def dkwX5_init_6 : List UInt8 := [181, 0, 70, 177]
abbrev dktX5_init_6 : List UInt8 := dkwX5_init_6 ++ []
def dkwX5_init_5 : List UInt8 := [7, 18, 62, 83, 89, 8, 18, 51, 83, 181, 0, 64, 42, 42, 180, 0, 53, 181, 0, 67, 42, 28]
abbrev dktX5_init_5 : List UInt8 := dkwX5_init_5 ++ dktX5_init_6
def dkwX5_init_4 : List UInt8 := [189, 0, 31, 89, 3, 18, 56, 83, 89, 4, 18, 58, 83, 89, 5, 18, 60, 83, 89, 6, 18, 43, 83, 89]
abbrev dktX5_init_4 : List UInt8 := dkwX5_init_4 ++ dktX5_init_5
def dkwX5_init_3 : List UInt8 := [18, 45, 83, 89, 5, 18, 47, 83, 89, 6, 18, 49, 83, 89, 7, 18, 51, 83, 181, 0, 53, 42, 16, 6]
abbrev dktX5_init_3 : List UInt8 := dkwX5_init_3 ++ dktX5_init_4
def dkwX5_init_2 : List UInt8 := [18, 35, 83, 89, 5, 18, 37, 83, 181, 0, 39, 42, 8, 189, 0, 31, 89, 3, 18, 43, 83, 89, 4]
abbrev dktX5_init_2 : List UInt8 := dkwX5_init_2 ++ dktX5_init_3
def dkwX5_init_1 : List UInt8 := [89, 42, 180, 0, 3, 183, 0, 24, 181, 0, 27, 42, 6, 189, 0, 31, 89, 3, 18, 33, 83, 89, 4]
abbrev dktX5_init_1 : List UInt8 := dkwX5_init_1 ++ dktX5_init_2
def dkwX5_init_0 : List UInt8 := [42, 43, 181, 0, 3, 42, 183, 0, 9, 42, 187, 0, 15, 89, 183, 0, 17, 181, 0, 18, 42, 187, 0, 22]
abbrev dktX5_init_0 : List UInt8 := dkwX5_init_0 ++ dktX5_init_1
theorem dksX5_init_0 : cX5_init.data.toList.drop 0 = dktX5_init_0 := by decide +kernel
theorem dksX5_init_1 : cX5_init.data.toList.drop 24 = dktX5_init_1 := dk_seg dksX5_init_0 24 rfl rfl
theorem dksX5_init_2 : cX5_init.data.toList.drop 47 = dktX5_init_2 := dk_seg dksX5_init_1 23 rfl rfl
theorem dksX5_init_3 : cX5_init.data.toList.drop 70 = dktX5_init_3 := dk_seg dksX5_init_2 23 rfl rfl
theorem dksX5_init_4 : cX5_init.data.toList.drop 94 = dktX5_init_4 := dk_seg dksX5_init_3 24 rfl rfl
theorem dksX5_init_5 : cX5_init.data.toList.drop 118 = dktX5_init_5 := dk_seg dksX5_init_4 24 rfl rfl
theorem dksX5_init_6 : cX5_init.data.toList.drop 140 = dktX5_init_6 := dk_seg dksX5_init_5 22 rfl rfl
theorem dX5_init_0 : decode cX5_init 0 = .ok (.aload_n 0, 1) := dk_42 (dk_at dksX5_init_0 0 rfl rfl)
theorem dX5_init_1 : decode cX5_init 1 = .ok (.aload_n 1, 1) := dk_43 (dk_at dksX5_init_0 1 rfl rfl)
theorem dX5_init_2 : decode cX5_init 2 = .ok (.putfield 3, 3) := dk_181 0 3 (dk_at dksX5_init_0 2 rfl rfl)
theorem dX5_init_5 : decode cX5_init 5 = .ok (.aload_n 0, 1) := dk_42 (dk_at dksX5_init_0 5 rfl rfl)
theorem dX5_init_6 : decode cX5_init 6 = .ok (.invokespecial 9, 3) := dk_183 0 9 (dk_at dksX5_init_0 6 rfl rfl)
theorem dX5_init_9 : decode cX5_init 9 = .ok (.aload_n 0, 1) := dk_42 (dk_at dksX5_init_0 9 rfl rfl)
theorem dX5_init_10 : decode cX5_init 10 = .ok (.new 15, 3) := dk_187 0 15 (dk_at dksX5_init_0 10 rfl rfl)
theorem dX5_init_13 : decode cX5_init 13 = .ok (.dup, 1) := dk_89 (dk_at dksX5_init_0 13 rfl rfl)
theorem dX5_init_14 : decode cX5_init 14 = .ok (.invokespecial 17, 3) := dk_183 0 17 (dk_at dksX5_init_0 14 rfl rfl)
theorem dX5_init_17 : decode cX5_init 17 = .ok (.putfield 18, 3) := dk_181 0 18 (dk_at dksX5_init_0 17 rfl rfl)
theorem dX5_init_20 : decode cX5_init 20 = .ok (.aload_n 0, 1) := dk_42 (dk_at dksX5_init_0 20 rfl rfl)
theorem dX5_init_21 : decode cX5_init 21 = .ok (.new 22, 3) := dk_187 0 22 (dk_at dksX5_init_0 21 rfl rfl)
theorem dX5_init_24 : decode cX5_init 24 = .ok (.dup, 1) := dk_89 (dk_at dksX5_init_1 0 rfl rfl)
theorem dX5_init_25 : decode cX5_init 25 = .ok (.aload_n 0, 1) := dk_42 (dk_at dksX5_init_1 1 rfl rfl)
theorem dX5_init_26 : decode cX5_init 26 = .ok (.getfield 3, 3) := dk_180 0 3 (dk_at dksX5_init_1 2 rfl rfl)
theorem dX5_init_29 : decode cX5_init 29 = .ok (.invokespecial 24, 3) := dk_183 0 24 (dk_at dksX5_init_1 5 rfl rfl)
theorem dX5_init_32 : decode cX5_init 32 = .ok (.putfield 27, 3) := dk_181 0 27 (dk_at dksX5_init_1 8 rfl rfl)
theorem dX5_init_35 : decode cX5_init 35 = .ok (.aload_n 0, 1) := dk_42 (dk_at dksX5_init_1 11 rfl rfl)
theorem dX5_init_36 : decode cX5_init 36 = .ok (.iconst 3, 1) := dk_6 (dk_at dksX5_init_1 12 rfl rfl)
theorem dX5_init_37 : decode cX5_init 37 = .ok (.anewarray 31, 3) := dk_189 0 31 (dk_at dksX5_init_1 13 rfl rfl)
theorem dX5_init_40 : decode cX5_init 40 = .ok (.dup, 1) := dk_89 (dk_at dksX5_init_1 16 rfl rfl)
theorem dX5_init_41 : decode cX5_init 41 = .ok (.iconst 0, 1) := dk_3 (dk_at dksX5_init_1 17 rfl rfl)
theorem dX5_init_42 : decode cX5_init 42 = .ok (.ldc 33, 2) := dk_18 33 (dk_at dksX5_init_1 18 rfl rfl)
theorem dX5_init_44 : decode cX5_init 44 = .ok (.aastore, 1) := dk_83 (dk_at dksX5_init_1 20 rfl rfl)
theorem dX5_init_45 : decode cX5_init 45 = .ok (.dup, 1) := dk_89 (dk_at dksX5_init_1 21 rfl rfl)
theorem dX5_init_46 : decode cX5_init 46 = .ok (.iconst 1, 1) := dk_4 (dk_at dksX5_init_1 22 rfl rfl)
theorem dX5_init_47 : decode cX5_init 47 = .ok (.ldc 35, 2) := dk_18 35 (dk_at dksX5_init_2 0 rfl rfl)
theorem dX5_init_49 : decode cX5_init 49 = .ok (.aastore, 1) := dk_83 (dk_at dksX5_init_2 2 rfl rfl)
theorem dX5_init_50 : decode cX5_init 50 = .ok (.dup, 1) := dk_89 (dk_at dksX5_init_2 3 rfl rfl)
theorem dX5_init_51 : decode cX5_init 51 = .ok (.iconst 2, 1) := dk_5 (dk_at dksX5_init_2 4 rfl rfl)
theorem dX5_init_52 : decode cX5_init 52 = .ok (.ldc 37, 2) := dk_18 37 (dk_at dksX5_init_2 5 rfl rfl)
theorem dX5_init_54 : decode cX5_init 54 = .ok (.aastore, 1) := dk_83 (dk_at dksX5_init_2 7 rfl rfl)
theorem dX5_init_55 : decode cX5_init 55 = .ok (.putfield 39, 3) := dk_181 0 39 (dk_at dksX5_init_2 8 rfl rfl)
theorem dX5_init_58 : decode cX5_init 58 = .ok (.aload_n 0, 1) := dk_42 (dk_at dksX5_init_2 11 rfl rfl)
theorem dX5_init_59 : decode cX5_init 59 = .ok (.iconst 5, 1) := dk_8 (dk_at dksX5_init_2 12 rfl rfl)
theorem dX5_init_60 : decode cX5_init 60 = .ok (.anewarray 31, 3) := dk_189 0 31 (dk_at dksX5_init_2 13 rfl rfl)
theorem dX5_init_63 : decode cX5_init 63 = .ok (.dup, 1) := dk_89 (dk_at dksX5_init_2 16 rfl rfl)
theorem dX5_init_64 : decode cX5_init 64 = .ok (.iconst 0, 1) := dk_3 (dk_at dksX5_init_2 17 rfl rfl)
theorem dX5_init_65 : decode cX5_init 65 = .ok (.ldc 43, 2) := dk_18 43 (dk_at dksX5_init_2 18 rfl rfl)
theorem dX5_init_67 : decode cX5_init 67 = .ok (.aastore, 1) := dk_83 (dk_at dksX5_init_2 20 rfl rfl)
theorem dX5_init_68 : decode cX5_init 68 = .ok (.dup, 1) := dk_89 (dk_at dksX5_init_2 21 rfl rfl)
theorem dX5_init_69 : decode cX5_init 69 = .ok (.iconst 1, 1) := dk_4 (dk_at dksX5_init_2 22 rfl rfl)
theorem dX5_init_70 : decode cX5_init 70 = .ok (.ldc 45, 2) := dk_18 45 (dk_at dksX5_init_3 0 rfl rfl)
theorem dX5_init_72 : decode cX5_init 72 = .ok (.aastore, 1) := dk_83 (dk_at dksX5_init_3 2 rfl rfl)
theorem dX5_init_73 : decode cX5_init 73 = .ok (.dup, 1) := dk_89 (dk_at dksX5_init_3 3 rfl rfl)
theorem dX5_init_74 : decode cX5_init 74 = .ok (.iconst 2, 1) := dk_5 (dk_at dksX5_init_3 4 rfl rfl)
theorem dX5_init_75 : decode cX5_init 75 = .ok (.ldc 47, 2) := dk_18 47 (dk_at dksX5_init_3 5 rfl rfl)
theorem dX5_init_77 : decode cX5_init 77 = .ok (.aastore, 1) := dk_83 (dk_at dksX5_init_3 7 rfl rfl)
theorem dX5_init_78 : decode cX5_init 78 = .ok (.dup, 1) := dk_89 (dk_at dksX5_init_3 8 rfl rfl)
theorem dX5_init_79 : decode cX5_init 79 = .ok (.iconst 3, 1) := dk_6 (dk_at dksX5_init_3 9 rfl rfl)
theorem dX5_init_80 : decode cX5_init 80 = .ok (.ldc 49, 2) := dk_18 49 (dk_at dksX5_init_3 10 rfl rfl)
theorem dX5_init_82 : decode cX5_init 82 = .ok (.aastore, 1) := dk_83 (dk_at dksX5_init_3 12 rfl rfl)
theorem dX5_init_83 : decode cX5_init 83 = .ok (.dup, 1) := dk_89 (dk_at dksX5_init_3 13 rfl rfl)
theorem dX5_init_84 : decode cX5_init 84 = .ok (.iconst 4, 1) := dk_7 (dk_at dksX5_init_3 14 rfl rfl)
theorem dX5_init_85 : decode cX5_init 85 = .ok (.ldc 51, 2) := dk_18 51 (dk_at dksX5_init_3 15 rfl rfl)
theorem dX5_init_87 : decode cX5_init 87 = .ok (.aastore, 1) := dk_83 (dk_at dksX5_init_3 17 rfl rfl)
theorem dX5_init_88 : decode cX5_init 88 = .ok (.putfield 53, 3) := dk_181 0 53 (dk_at dksX5_init_3 18 rfl rfl)
theorem dX5_init_91 : decode cX5_init 91 = .ok (.aload_n 0, 1) := dk_42 (dk_at dksX5_init_3 21 rfl rfl)
theorem dX5_init_92 : decode cX5_init 92 = .ok (.bipush 6, 2) := dk_16 6 (dk_at dksX5_init_3 22 rfl rfl)
theorem dX5_init_94 : decode cX5_init 94 = .ok (.anewarray 31, 3) := dk_189 0 31 (dk_at dksX5_init_4 0 rfl rfl)
theorem dX5_init_97 : decode cX5_init 97 = .ok (.dup, 1) := dk_89 (dk_at dksX5_init_4 3 rfl rfl)
theorem dX5_init_98 : decode cX5_init 98 = .ok (.iconst 0, 1) := dk_3 (dk_at dksX5_init_4 4 rfl rfl)
theorem dX5_init_99 : decode cX5_init 99 = .ok (.ldc 56, 2) := dk_18 56 (dk_at dksX5_init_4 5 rfl rfl)
theorem dX5_init_101 : decode cX5_init 101 = .ok (.aastore, 1) := dk_83 (dk_at dksX5_init_4 7 rfl rfl)
theorem dX5_init_102 : decode cX5_init 102 = .ok (.dup, 1) := dk_89 (dk_at dksX5_init_4 8 rfl rfl)
theorem dX5_init_103 : decode cX5_init 103 = .ok (.iconst 1, 1) := dk_4 (dk_at dksX5_init_4 9 rfl rfl)
theorem dX5_init_104 : decode cX5_init 104 = .ok (.ldc 58, 2) := dk_18 58 (dk_at dksX5_init_4 10 rfl rfl)
theorem dX5_init_106 : decode cX5_init 106 = .ok (.aastore, 1) := dk_83 (dk_at dksX5_init_4 12 rfl rfl)
theorem dX5_init_107 : decode cX5_init 107 = .ok (.dup, 1) := dk_89 (dk_at dksX5_init_4 13 rfl rfl)
theorem dX5_init_108 : decode cX5_init 108 = .ok (.iconst 2, 1) := dk_5 (dk_at dksX5_init_4 14 rfl rfl)
theorem dX5_init_109 : decode cX5_init 109 = .ok (.ldc 60, 2) := dk_18 60 (dk_at dksX5_init_4 15 rfl rfl)
theorem dX5_init_111 : decode cX5_init 111 = .ok (.aastore, 1) := dk_83 (dk_at dksX5_init_4 17 rfl rfl)
theorem dX5_init_112 : decode cX5_init 112 = .ok (.dup, 1) := dk_89 (dk_at dksX5_init_4 18 rfl rfl)
theorem dX5_init_113 : decode cX5_init 113 = .ok (.iconst 3, 1) := dk_6 (dk_at dksX5_init_4 19 rfl rfl)
theorem dX5_init_114 : decode cX5_init 114 = .ok (.ldc 43, 2) := dk_18 43 (dk_at dksX5_init_4 20 rfl rfl)
theorem dX5_init_116 : decode cX5_init 116 = .ok (.aastore, 1) := dk_83 (dk_at dksX5_init_4 22 rfl rfl)
theorem dX5_init_117 : decode cX5_init 117 = .ok (.dup, 1) := dk_89 (dk_at dksX5_init_4 23 rfl rfl)
theorem dX5_init_118 : decode cX5_init 118 = .ok (.iconst 4, 1) := dk_7 (dk_at dksX5_init_5 0 rfl rfl)
theorem dX5_init_119 : decode cX5_init 119 = .ok (.ldc 62, 2) := dk_18 62 (dk_at dksX5_init_5 1 rfl rfl)
theorem dX5_init_121 : decode cX5_init 121 = .ok (.aastore, 1) := dk_83 (dk_at dksX5_init_5 3 rfl rfl)
theorem dX5_init_122 : decode cX5_init 122 = .ok (.dup, 1) := dk_89 (dk_at dksX5_init_5 4 rfl rfl)
theorem dX5_init_123 : decode cX5_init 123 = .ok (.iconst 5, 1) := dk_8 (dk_at dksX5_init_5 5 rfl rfl)
theorem dX5_init_124 : decode cX5_init 124 = .ok (.ldc 51, 2) := dk_18 51 (dk_at dksX5_init_5 6 rfl rfl)
theorem dX5_init_126 : decode cX5_init 126 = .ok (.aastore, 1) := dk_83 (dk_at dksX5_init_5 8 rfl rfl)
theorem dX5_init_127 : decode cX5_init 127 = .ok (.putfield 64, 3) := dk_181 0 64 (dk_at dksX5_init_5 9 rfl rfl)
theorem dX5_init_130 : decode cX5_init 130 = .ok (.aload_n 0, 1) := dk_42 (dk_at dksX5_init_5 12 rfl rfl)
theorem dX5_init_131 : decode cX5_init 131 = .ok (.aload_n 0, 1) := dk_42 (dk_at dksX5_init_5 13 rfl rfl)
theorem dX5_init_132 : decode cX5_init 132 = .ok (.getfield 53, 3) := dk_180 0 53 (dk_at dksX5_init_5 14 rfl rfl)
theorem dX5_init_135 : decode cX5_init 135 = .ok (.putfield 67, 3) := dk_181 0 67 (dk_at dksX5_init_5 17 rfl rfl)
theorem dX5_init_138 : decode cX5_init 138 = .ok (.aload_n 0, 1) := dk_42 (dk_at dksX5_init_5 20 rfl rfl)
theorem dX5_init_139 : decode cX5_init 139 = .ok (.iload_n 2, 1) := dk_28 (dk_at dksX5_init_5 21 rfl rfl)
theorem dX5_init_140 : decode cX5_init 140 = .ok (.putfield 70, 3) := dk_181 0 70 (dk_at dksX5_init_6 0 rfl rfl)
theorem dX5_init_143 : decode cX5_init 143 = .ok (.return_, 1) := dk_177 (dk_at dksX5_init_6 3 rfl rfl)
abbrev cX5_read : ByteArray := prog_7_method_27_code
def yX5_read : MethodName := ⟨RX5, "read", "()LTwinInk$Office;"⟩
def dkwX5_read_0 : List UInt8 := [42, 182, 0, 132, 42, 180, 0, 92, 153, 0, 10, 42, 182, 1, 26, 167, 255, 245, 42, 180, 0, 18, 176]
abbrev dktX5_read_0 : List UInt8 := dkwX5_read_0 ++ []
theorem dksX5_read_0 : cX5_read.data.toList.drop 0 = dktX5_read_0 := by decide +kernel
theorem dX5_read_0 : decode cX5_read 0 = .ok (.aload_n 0, 1) := dk_42 (dk_at dksX5_read_0 0 rfl rfl)
theorem dX5_read_1 : decode cX5_read 1 = .ok (.invokevirtual 132, 3) := dk_182 0 132 (dk_at dksX5_read_0 1 rfl rfl)
theorem dX5_read_4 : decode cX5_read 4 = .ok (.aload_n 0, 1) := dk_42 (dk_at dksX5_read_0 4 rfl rfl)
theorem dX5_read_5 : decode cX5_read 5 = .ok (.getfield 92, 3) := dk_180 0 92 (dk_at dksX5_read_0 5 rfl rfl)
theorem dX5_read_8 : decode cX5_read 8 = .ok (.ifCond .eq 10, 3) := dk_153 0 10 (dk_at dksX5_read_0 8 rfl rfl)
theorem dX5_read_11 : decode cX5_read 11 = .ok (.aload_n 0, 1) := dk_42 (dk_at dksX5_read_0 11 rfl rfl)
theorem dX5_read_12 : decode cX5_read 12 = .ok (.invokevirtual 282, 3) := dk_182 1 26 (dk_at dksX5_read_0 12 rfl rfl)
theorem dX5_read_15 : decode cX5_read 15 = .ok (.goto (-11), 3) := dk_167 255 245 (dk_at dksX5_read_0 15 rfl rfl)
theorem dX5_read_18 : decode cX5_read 18 = .ok (.aload_n 0, 1) := dk_42 (dk_at dksX5_read_0 18 rfl rfl)
theorem dX5_read_19 : decode cX5_read 19 = .ok (.getfield 18, 3) := dk_180 0 18 (dk_at dksX5_read_0 19 rfl rfl)
theorem dX5_read_22 : decode cX5_read 22 = .ok (.areturn, 1) := dk_176 (dk_at dksX5_read_0 22 rfl rfl)
abbrev cX5_next : ByteArray := prog_7_method_5_code
def yX5_next : MethodName := ⟨RX5, "next", "()V"⟩
def dkwX5_next_8 : List UInt8 := [180, 0, 74, 181, 0, 118, 177]
abbrev dktX5_next_8 : List UInt8 := dkwX5_next_8 ++ []
def dkwX5_next_7 : List UInt8 := [155, 0, 7, 6, 167, 0, 4, 7, 181, 0, 92, 42, 89, 180, 0, 74, 4, 96, 181, 0, 74, 42, 42]
abbrev dktX5_next_7 : List UInt8 := dkwX5_next_7 ++ dktX5_next_8
def dkwX5_next_6 : List UInt8 := [181, 0, 74, 167, 255, 215, 42, 5, 181, 0, 92, 167, 0, 34, 42, 18, 112, 42, 182, 0, 81, 182, 0, 114]
abbrev dktX5_next_6 : List UInt8 := dkwX5_next_6 ++ dktX5_next_7
def dkwX5_next_5 : List UInt8 := [104, 42, 182, 0, 81, 96, 16, 48, 100, 184, 0, 106, 181, 0, 102, 42, 89, 180, 0, 74, 4, 96]
abbrev dktX5_next_5 : List UInt8 := dkwX5_next_5 ++ dktX5_next_6
def dkwX5_next_4 : List UInt8 := [153, 0, 60, 42, 3, 181, 0, 102, 42, 182, 0, 99, 153, 0, 40, 42, 18, 105, 16, 10, 42, 180, 0, 102]
abbrev dktX5_next_4 : List UInt8 := dkwX5_next_4 ++ dktX5_next_5
def dkwX5_next_3 : List UInt8 := [180, 0, 74, 4, 96, 181, 0, 74, 167, 255, 239, 42, 4, 181, 0, 92, 167, 0, 98, 42, 182, 0, 99]
abbrev dktX5_next_3 : List UInt8 := dkwX5_next_3 ++ dktX5_next_4
def dkwX5_next_2 : List UInt8 := [3, 181, 0, 92, 167, 0, 133, 42, 182, 0, 95, 153, 0, 31, 42, 182, 0, 95, 153, 0, 16, 42, 89]
abbrev dktX5_next_2 : List UInt8 := dkwX5_next_2 ++ dktX5_next_3
def dkwX5_next_1 : List UInt8 := [96, 181, 0, 74, 167, 255, 228, 42, 42, 180, 0, 74, 181, 0, 89, 42, 182, 0, 81, 2, 160, 0, 11, 42]
abbrev dktX5_next_1 : List UInt8 := dkwX5_next_1 ++ dktX5_next_2
def dkwX5_next_0 : List UInt8 := [42, 182, 0, 81, 16, 32, 159, 0, 12, 42, 182, 0, 81, 16, 10, 160, 0, 16, 42, 89, 180, 0, 74, 4]
abbrev dktX5_next_0 : List UInt8 := dkwX5_next_0 ++ dktX5_next_1
theorem dksX5_next_0 : cX5_next.data.toList.drop 0 = dktX5_next_0 := by decide +kernel
theorem dksX5_next_1 : cX5_next.data.toList.drop 24 = dktX5_next_1 := dk_seg dksX5_next_0 24 rfl rfl
theorem dksX5_next_2 : cX5_next.data.toList.drop 48 = dktX5_next_2 := dk_seg dksX5_next_1 24 rfl rfl
theorem dksX5_next_3 : cX5_next.data.toList.drop 71 = dktX5_next_3 := dk_seg dksX5_next_2 23 rfl rfl
theorem dksX5_next_4 : cX5_next.data.toList.drop 94 = dktX5_next_4 := dk_seg dksX5_next_3 23 rfl rfl
theorem dksX5_next_5 : cX5_next.data.toList.drop 118 = dktX5_next_5 := dk_seg dksX5_next_4 24 rfl rfl
theorem dksX5_next_6 : cX5_next.data.toList.drop 140 = dktX5_next_6 := dk_seg dksX5_next_5 22 rfl rfl
theorem dksX5_next_7 : cX5_next.data.toList.drop 164 = dktX5_next_7 := dk_seg dksX5_next_6 24 rfl rfl
theorem dksX5_next_8 : cX5_next.data.toList.drop 187 = dktX5_next_8 := dk_seg dksX5_next_7 23 rfl rfl
theorem dX5_next_0 : decode cX5_next 0 = .ok (.aload_n 0, 1) := dk_42 (dk_at dksX5_next_0 0 rfl rfl)
theorem dX5_next_1 : decode cX5_next 1 = .ok (.invokevirtual 81, 3) := dk_182 0 81 (dk_at dksX5_next_0 1 rfl rfl)
theorem dX5_next_4 : decode cX5_next 4 = .ok (.bipush 32, 2) := dk_16 32 (dk_at dksX5_next_0 4 rfl rfl)
theorem dX5_next_6 : decode cX5_next 6 = .ok (.if_icmp .eq 12, 3) := dk_159 0 12 (dk_at dksX5_next_0 6 rfl rfl)
theorem dX5_next_9 : decode cX5_next 9 = .ok (.aload_n 0, 1) := dk_42 (dk_at dksX5_next_0 9 rfl rfl)
theorem dX5_next_10 : decode cX5_next 10 = .ok (.invokevirtual 81, 3) := dk_182 0 81 (dk_at dksX5_next_0 10 rfl rfl)
theorem dX5_next_13 : decode cX5_next 13 = .ok (.bipush 10, 2) := dk_16 10 (dk_at dksX5_next_0 13 rfl rfl)
theorem dX5_next_15 : decode cX5_next 15 = .ok (.if_icmp .ne 16, 3) := dk_160 0 16 (dk_at dksX5_next_0 15 rfl rfl)
theorem dX5_next_18 : decode cX5_next 18 = .ok (.aload_n 0, 1) := dk_42 (dk_at dksX5_next_0 18 rfl rfl)
theorem dX5_next_19 : decode cX5_next 19 = .ok (.dup, 1) := dk_89 (dk_at dksX5_next_0 19 rfl rfl)
theorem dX5_next_20 : decode cX5_next 20 = .ok (.getfield 74, 3) := dk_180 0 74 (dk_at dksX5_next_0 20 rfl rfl)
theorem dX5_next_23 : decode cX5_next 23 = .ok (.iconst 1, 1) := dk_4 (dk_at dksX5_next_0 23 rfl rfl)
theorem dX5_next_24 : decode cX5_next 24 = .ok (.iadd, 1) := dk_96 (dk_at dksX5_next_1 0 rfl rfl)
theorem dX5_next_25 : decode cX5_next 25 = .ok (.putfield 74, 3) := dk_181 0 74 (dk_at dksX5_next_1 1 rfl rfl)
theorem dX5_next_28 : decode cX5_next 28 = .ok (.goto (-28), 3) := dk_167 255 228 (dk_at dksX5_next_1 4 rfl rfl)
theorem dX5_next_31 : decode cX5_next 31 = .ok (.aload_n 0, 1) := dk_42 (dk_at dksX5_next_1 7 rfl rfl)
theorem dX5_next_32 : decode cX5_next 32 = .ok (.aload_n 0, 1) := dk_42 (dk_at dksX5_next_1 8 rfl rfl)
theorem dX5_next_33 : decode cX5_next 33 = .ok (.getfield 74, 3) := dk_180 0 74 (dk_at dksX5_next_1 9 rfl rfl)
theorem dX5_next_36 : decode cX5_next 36 = .ok (.putfield 89, 3) := dk_181 0 89 (dk_at dksX5_next_1 12 rfl rfl)
theorem dX5_next_39 : decode cX5_next 39 = .ok (.aload_n 0, 1) := dk_42 (dk_at dksX5_next_1 15 rfl rfl)
theorem dX5_next_40 : decode cX5_next 40 = .ok (.invokevirtual 81, 3) := dk_182 0 81 (dk_at dksX5_next_1 16 rfl rfl)
theorem dX5_next_43 : decode cX5_next 43 = .ok (.iconst (-1), 1) := dk_2 (dk_at dksX5_next_1 19 rfl rfl)
theorem dX5_next_44 : decode cX5_next 44 = .ok (.if_icmp .ne 11, 3) := dk_160 0 11 (dk_at dksX5_next_1 20 rfl rfl)
theorem dX5_next_47 : decode cX5_next 47 = .ok (.aload_n 0, 1) := dk_42 (dk_at dksX5_next_1 23 rfl rfl)
theorem dX5_next_48 : decode cX5_next 48 = .ok (.iconst 0, 1) := dk_3 (dk_at dksX5_next_2 0 rfl rfl)
theorem dX5_next_49 : decode cX5_next 49 = .ok (.putfield 92, 3) := dk_181 0 92 (dk_at dksX5_next_2 1 rfl rfl)
theorem dX5_next_52 : decode cX5_next 52 = .ok (.goto 133, 3) := dk_167 0 133 (dk_at dksX5_next_2 4 rfl rfl)
theorem dX5_next_55 : decode cX5_next 55 = .ok (.aload_n 0, 1) := dk_42 (dk_at dksX5_next_2 7 rfl rfl)
theorem dX5_next_56 : decode cX5_next 56 = .ok (.invokevirtual 95, 3) := dk_182 0 95 (dk_at dksX5_next_2 8 rfl rfl)
theorem dX5_next_59 : decode cX5_next 59 = .ok (.ifCond .eq 31, 3) := dk_153 0 31 (dk_at dksX5_next_2 11 rfl rfl)
theorem dX5_next_62 : decode cX5_next 62 = .ok (.aload_n 0, 1) := dk_42 (dk_at dksX5_next_2 14 rfl rfl)
theorem dX5_next_63 : decode cX5_next 63 = .ok (.invokevirtual 95, 3) := dk_182 0 95 (dk_at dksX5_next_2 15 rfl rfl)
theorem dX5_next_66 : decode cX5_next 66 = .ok (.ifCond .eq 16, 3) := dk_153 0 16 (dk_at dksX5_next_2 18 rfl rfl)
theorem dX5_next_69 : decode cX5_next 69 = .ok (.aload_n 0, 1) := dk_42 (dk_at dksX5_next_2 21 rfl rfl)
theorem dX5_next_70 : decode cX5_next 70 = .ok (.dup, 1) := dk_89 (dk_at dksX5_next_2 22 rfl rfl)
theorem dX5_next_71 : decode cX5_next 71 = .ok (.getfield 74, 3) := dk_180 0 74 (dk_at dksX5_next_3 0 rfl rfl)
theorem dX5_next_74 : decode cX5_next 74 = .ok (.iconst 1, 1) := dk_4 (dk_at dksX5_next_3 3 rfl rfl)
theorem dX5_next_75 : decode cX5_next 75 = .ok (.iadd, 1) := dk_96 (dk_at dksX5_next_3 4 rfl rfl)
theorem dX5_next_76 : decode cX5_next 76 = .ok (.putfield 74, 3) := dk_181 0 74 (dk_at dksX5_next_3 5 rfl rfl)
theorem dX5_next_79 : decode cX5_next 79 = .ok (.goto (-17), 3) := dk_167 255 239 (dk_at dksX5_next_3 8 rfl rfl)
theorem dX5_next_82 : decode cX5_next 82 = .ok (.aload_n 0, 1) := dk_42 (dk_at dksX5_next_3 11 rfl rfl)
theorem dX5_next_83 : decode cX5_next 83 = .ok (.iconst 1, 1) := dk_4 (dk_at dksX5_next_3 12 rfl rfl)
theorem dX5_next_84 : decode cX5_next 84 = .ok (.putfield 92, 3) := dk_181 0 92 (dk_at dksX5_next_3 13 rfl rfl)
theorem dX5_next_87 : decode cX5_next 87 = .ok (.goto 98, 3) := dk_167 0 98 (dk_at dksX5_next_3 16 rfl rfl)
theorem dX5_next_90 : decode cX5_next 90 = .ok (.aload_n 0, 1) := dk_42 (dk_at dksX5_next_3 19 rfl rfl)
theorem dX5_next_91 : decode cX5_next 91 = .ok (.invokevirtual 99, 3) := dk_182 0 99 (dk_at dksX5_next_3 20 rfl rfl)
theorem dX5_next_94 : decode cX5_next 94 = .ok (.ifCond .eq 60, 3) := dk_153 0 60 (dk_at dksX5_next_4 0 rfl rfl)
theorem dX5_next_97 : decode cX5_next 97 = .ok (.aload_n 0, 1) := dk_42 (dk_at dksX5_next_4 3 rfl rfl)
theorem dX5_next_98 : decode cX5_next 98 = .ok (.iconst 0, 1) := dk_3 (dk_at dksX5_next_4 4 rfl rfl)
theorem dX5_next_99 : decode cX5_next 99 = .ok (.putfield 102, 3) := dk_181 0 102 (dk_at dksX5_next_4 5 rfl rfl)
theorem dX5_next_102 : decode cX5_next 102 = .ok (.aload_n 0, 1) := dk_42 (dk_at dksX5_next_4 8 rfl rfl)
theorem dX5_next_103 : decode cX5_next 103 = .ok (.invokevirtual 99, 3) := dk_182 0 99 (dk_at dksX5_next_4 9 rfl rfl)
theorem dX5_next_106 : decode cX5_next 106 = .ok (.ifCond .eq 40, 3) := dk_153 0 40 (dk_at dksX5_next_4 12 rfl rfl)
theorem dX5_next_109 : decode cX5_next 109 = .ok (.aload_n 0, 1) := dk_42 (dk_at dksX5_next_4 15 rfl rfl)
theorem dX5_next_110 : decode cX5_next 110 = .ok (.ldc 105, 2) := dk_18 105 (dk_at dksX5_next_4 16 rfl rfl)
theorem dX5_next_112 : decode cX5_next 112 = .ok (.bipush 10, 2) := dk_16 10 (dk_at dksX5_next_4 18 rfl rfl)
theorem dX5_next_114 : decode cX5_next 114 = .ok (.aload_n 0, 1) := dk_42 (dk_at dksX5_next_4 20 rfl rfl)
theorem dX5_next_115 : decode cX5_next 115 = .ok (.getfield 102, 3) := dk_180 0 102 (dk_at dksX5_next_4 21 rfl rfl)
theorem dX5_next_118 : decode cX5_next 118 = .ok (.imul, 1) := dk_104 (dk_at dksX5_next_5 0 rfl rfl)
theorem dX5_next_119 : decode cX5_next 119 = .ok (.aload_n 0, 1) := dk_42 (dk_at dksX5_next_5 1 rfl rfl)
theorem dX5_next_120 : decode cX5_next 120 = .ok (.invokevirtual 81, 3) := dk_182 0 81 (dk_at dksX5_next_5 2 rfl rfl)
theorem dX5_next_123 : decode cX5_next 123 = .ok (.iadd, 1) := dk_96 (dk_at dksX5_next_5 5 rfl rfl)
theorem dX5_next_124 : decode cX5_next 124 = .ok (.bipush 48, 2) := dk_16 48 (dk_at dksX5_next_5 6 rfl rfl)
theorem dX5_next_126 : decode cX5_next 126 = .ok (.isub, 1) := dk_100 (dk_at dksX5_next_5 8 rfl rfl)
theorem dX5_next_127 : decode cX5_next 127 = .ok (.invokestatic 106, 3) := dk_184 0 106 (dk_at dksX5_next_5 9 rfl rfl)
theorem dX5_next_130 : decode cX5_next 130 = .ok (.putfield 102, 3) := dk_181 0 102 (dk_at dksX5_next_5 12 rfl rfl)
theorem dX5_next_133 : decode cX5_next 133 = .ok (.aload_n 0, 1) := dk_42 (dk_at dksX5_next_5 15 rfl rfl)
theorem dX5_next_134 : decode cX5_next 134 = .ok (.dup, 1) := dk_89 (dk_at dksX5_next_5 16 rfl rfl)
theorem dX5_next_135 : decode cX5_next 135 = .ok (.getfield 74, 3) := dk_180 0 74 (dk_at dksX5_next_5 17 rfl rfl)
theorem dX5_next_138 : decode cX5_next 138 = .ok (.iconst 1, 1) := dk_4 (dk_at dksX5_next_5 20 rfl rfl)
theorem dX5_next_139 : decode cX5_next 139 = .ok (.iadd, 1) := dk_96 (dk_at dksX5_next_5 21 rfl rfl)
theorem dX5_next_140 : decode cX5_next 140 = .ok (.putfield 74, 3) := dk_181 0 74 (dk_at dksX5_next_6 0 rfl rfl)
theorem dX5_next_143 : decode cX5_next 143 = .ok (.goto (-41), 3) := dk_167 255 215 (dk_at dksX5_next_6 3 rfl rfl)
theorem dX5_next_146 : decode cX5_next 146 = .ok (.aload_n 0, 1) := dk_42 (dk_at dksX5_next_6 6 rfl rfl)
theorem dX5_next_147 : decode cX5_next 147 = .ok (.iconst 2, 1) := dk_5 (dk_at dksX5_next_6 7 rfl rfl)
theorem dX5_next_148 : decode cX5_next 148 = .ok (.putfield 92, 3) := dk_181 0 92 (dk_at dksX5_next_6 8 rfl rfl)
theorem dX5_next_151 : decode cX5_next 151 = .ok (.goto 34, 3) := dk_167 0 34 (dk_at dksX5_next_6 11 rfl rfl)
theorem dX5_next_154 : decode cX5_next 154 = .ok (.aload_n 0, 1) := dk_42 (dk_at dksX5_next_6 14 rfl rfl)
theorem dX5_next_155 : decode cX5_next 155 = .ok (.ldc 112, 2) := dk_18 112 (dk_at dksX5_next_6 15 rfl rfl)
theorem dX5_next_157 : decode cX5_next 157 = .ok (.aload_n 0, 1) := dk_42 (dk_at dksX5_next_6 17 rfl rfl)
theorem dX5_next_158 : decode cX5_next 158 = .ok (.invokevirtual 81, 3) := dk_182 0 81 (dk_at dksX5_next_6 18 rfl rfl)
theorem dX5_next_161 : decode cX5_next 161 = .ok (.invokevirtual 114, 3) := dk_182 0 114 (dk_at dksX5_next_6 21 rfl rfl)
theorem dX5_next_164 : decode cX5_next 164 = .ok (.ifCond .lt 7, 3) := dk_155 0 7 (dk_at dksX5_next_7 0 rfl rfl)
theorem dX5_next_167 : decode cX5_next 167 = .ok (.iconst 3, 1) := dk_6 (dk_at dksX5_next_7 3 rfl rfl)
theorem dX5_next_168 : decode cX5_next 168 = .ok (.goto 4, 3) := dk_167 0 4 (dk_at dksX5_next_7 4 rfl rfl)
theorem dX5_next_171 : decode cX5_next 171 = .ok (.iconst 4, 1) := dk_7 (dk_at dksX5_next_7 7 rfl rfl)
theorem dX5_next_172 : decode cX5_next 172 = .ok (.putfield 92, 3) := dk_181 0 92 (dk_at dksX5_next_7 8 rfl rfl)
theorem dX5_next_175 : decode cX5_next 175 = .ok (.aload_n 0, 1) := dk_42 (dk_at dksX5_next_7 11 rfl rfl)
theorem dX5_next_176 : decode cX5_next 176 = .ok (.dup, 1) := dk_89 (dk_at dksX5_next_7 12 rfl rfl)
theorem dX5_next_177 : decode cX5_next 177 = .ok (.getfield 74, 3) := dk_180 0 74 (dk_at dksX5_next_7 13 rfl rfl)
theorem dX5_next_180 : decode cX5_next 180 = .ok (.iconst 1, 1) := dk_4 (dk_at dksX5_next_7 16 rfl rfl)
theorem dX5_next_181 : decode cX5_next 181 = .ok (.iadd, 1) := dk_96 (dk_at dksX5_next_7 17 rfl rfl)
theorem dX5_next_182 : decode cX5_next 182 = .ok (.putfield 74, 3) := dk_181 0 74 (dk_at dksX5_next_7 18 rfl rfl)
theorem dX5_next_185 : decode cX5_next 185 = .ok (.aload_n 0, 1) := dk_42 (dk_at dksX5_next_7 21 rfl rfl)
theorem dX5_next_186 : decode cX5_next 186 = .ok (.aload_n 0, 1) := dk_42 (dk_at dksX5_next_7 22 rfl rfl)
theorem dX5_next_187 : decode cX5_next 187 = .ok (.getfield 74, 3) := dk_180 0 74 (dk_at dksX5_next_8 0 rfl rfl)
theorem dX5_next_190 : decode cX5_next 190 = .ok (.putfield 118, 3) := dk_181 0 118 (dk_at dksX5_next_8 3 rfl rfl)
theorem dX5_next_193 : decode cX5_next 193 = .ok (.return_, 1) := dk_177 (dk_at dksX5_next_8 6 rfl rfl)
abbrev cX5_here : ByteArray := prog_7_method_2_code
def yX5_here : MethodName := ⟨RX5, "here", "()I"⟩
def dkwX5_here_1 : List UInt8 := [17, 0, 255, 126, 167, 0, 4, 2, 172]
abbrev dktX5_here_1 : List UInt8 := dkwX5_here_1 ++ []
def dkwX5_here_0 : List UInt8 := [42, 180, 0, 74, 42, 180, 0, 70, 162, 0, 22, 42, 180, 0, 3, 180, 0, 77, 42, 180, 0, 74, 51]
abbrev dktX5_here_0 : List UInt8 := dkwX5_here_0 ++ dktX5_here_1
theorem dksX5_here_0 : cX5_here.data.toList.drop 0 = dktX5_here_0 := by decide +kernel
theorem dksX5_here_1 : cX5_here.data.toList.drop 23 = dktX5_here_1 := dk_seg dksX5_here_0 23 rfl rfl
theorem dX5_here_0 : decode cX5_here 0 = .ok (.aload_n 0, 1) := dk_42 (dk_at dksX5_here_0 0 rfl rfl)
theorem dX5_here_1 : decode cX5_here 1 = .ok (.getfield 74, 3) := dk_180 0 74 (dk_at dksX5_here_0 1 rfl rfl)
theorem dX5_here_4 : decode cX5_here 4 = .ok (.aload_n 0, 1) := dk_42 (dk_at dksX5_here_0 4 rfl rfl)
theorem dX5_here_5 : decode cX5_here 5 = .ok (.getfield 70, 3) := dk_180 0 70 (dk_at dksX5_here_0 5 rfl rfl)
theorem dX5_here_8 : decode cX5_here 8 = .ok (.if_icmp .ge 22, 3) := dk_162 0 22 (dk_at dksX5_here_0 8 rfl rfl)
theorem dX5_here_11 : decode cX5_here 11 = .ok (.aload_n 0, 1) := dk_42 (dk_at dksX5_here_0 11 rfl rfl)
theorem dX5_here_12 : decode cX5_here 12 = .ok (.getfield 3, 3) := dk_180 0 3 (dk_at dksX5_here_0 12 rfl rfl)
theorem dX5_here_15 : decode cX5_here 15 = .ok (.getfield 77, 3) := dk_180 0 77 (dk_at dksX5_here_0 15 rfl rfl)
theorem dX5_here_18 : decode cX5_here 18 = .ok (.aload_n 0, 1) := dk_42 (dk_at dksX5_here_0 18 rfl rfl)
theorem dX5_here_19 : decode cX5_here 19 = .ok (.getfield 74, 3) := dk_180 0 74 (dk_at dksX5_here_0 19 rfl rfl)
theorem dX5_here_22 : decode cX5_here 22 = .ok (.baload, 1) := dk_51 (dk_at dksX5_here_0 22 rfl rfl)
theorem dX5_here_23 : decode cX5_here 23 = .ok (.sipush 255, 3) := dk_17 0 255 (dk_at dksX5_here_1 0 rfl rfl)
theorem dX5_here_26 : decode cX5_here 26 = .ok (.iand, 1) := dk_126 (dk_at dksX5_here_1 3 rfl rfl)
theorem dX5_here_27 : decode cX5_here 27 = .ok (.goto 4, 3) := dk_167 0 4 (dk_at dksX5_here_1 4 rfl rfl)
theorem dX5_here_30 : decode cX5_here 30 = .ok (.iconst (-1), 1) := dk_2 (dk_at dksX5_here_1 7 rfl rfl)
theorem dX5_here_31 : decode cX5_here 31 = .ok (.ireturn, 1) := dk_172 (dk_at dksX5_here_1 8 rfl rfl)
abbrev cX5_isLetter : ByteArray := prog_7_method_3_code
def yX5_isLetter : MethodName := ⟨RX5, "isLetter", "()Z"⟩
def dkwX5_isLetter_0 : List UInt8 := [42, 182, 0, 81, 16, 97, 16, 122, 184, 0, 85, 172]
abbrev dktX5_isLetter_0 : List UInt8 := dkwX5_isLetter_0 ++ []
theorem dksX5_isLetter_0 : cX5_isLetter.data.toList.drop 0 = dktX5_isLetter_0 := by decide +kernel
theorem dX5_isLetter_0 : decode cX5_isLetter 0 = .ok (.aload_n 0, 1) := dk_42 (dk_at dksX5_isLetter_0 0 rfl rfl)
theorem dX5_isLetter_1 : decode cX5_isLetter 1 = .ok (.invokevirtual 81, 3) := dk_182 0 81 (dk_at dksX5_isLetter_0 1 rfl rfl)
theorem dX5_isLetter_4 : decode cX5_isLetter 4 = .ok (.bipush 97, 2) := dk_16 97 (dk_at dksX5_isLetter_0 4 rfl rfl)
theorem dX5_isLetter_6 : decode cX5_isLetter 6 = .ok (.bipush 122, 2) := dk_16 122 (dk_at dksX5_isLetter_0 6 rfl rfl)
theorem dX5_isLetter_8 : decode cX5_isLetter 8 = .ok (.invokestatic 85, 3) := dk_184 0 85 (dk_at dksX5_isLetter_0 8 rfl rfl)
theorem dX5_isLetter_11 : decode cX5_isLetter 11 = .ok (.ireturn, 1) := dk_172 (dk_at dksX5_isLetter_0 11 rfl rfl)
abbrev cX5_isDigit : ByteArray := prog_7_method_4_code
def yX5_isDigit : MethodName := ⟨RX5, "isDigit", "()Z"⟩
def dkwX5_isDigit_0 : List UInt8 := [42, 182, 0, 81, 16, 48, 16, 57, 184, 0, 85, 172]
abbrev dktX5_isDigit_0 : List UInt8 := dkwX5_isDigit_0 ++ []
theorem dksX5_isDigit_0 : cX5_isDigit.data.toList.drop 0 = dktX5_isDigit_0 := by decide +kernel
theorem dX5_isDigit_0 : decode cX5_isDigit 0 = .ok (.aload_n 0, 1) := dk_42 (dk_at dksX5_isDigit_0 0 rfl rfl)
theorem dX5_isDigit_1 : decode cX5_isDigit 1 = .ok (.invokevirtual 81, 3) := dk_182 0 81 (dk_at dksX5_isDigit_0 1 rfl rfl)
theorem dX5_isDigit_4 : decode cX5_isDigit 4 = .ok (.bipush 48, 2) := dk_16 48 (dk_at dksX5_isDigit_0 4 rfl rfl)
theorem dX5_isDigit_6 : decode cX5_isDigit 6 = .ok (.bipush 57, 2) := dk_16 57 (dk_at dksX5_isDigit_0 6 rfl rfl)
theorem dX5_isDigit_8 : decode cX5_isDigit 8 = .ok (.invokestatic 85, 3) := dk_184 0 85 (dk_at dksX5_isDigit_0 8 rfl rfl)
theorem dX5_isDigit_11 : decode cX5_isDigit 11 = .ok (.ireturn, 1) := dk_172 (dk_at dksX5_isDigit_0 11 rfl rfl)
abbrev cX5_line : ByteArray := prog_7_method_26_code
def yX5_line : MethodName := ⟨RX5, "line", "()V"⟩
def dkwX5_line_3 : List UInt8 := [182, 1, 24, 42, 42, 16, 59, 182, 0, 154, 4, 182, 0, 140, 42, 182, 0, 132, 177]
abbrev dktX5_line_3 : List UInt8 := dkwX5_line_3 ++ []
def dkwX5_line_2 : List UInt8 := [153, 0, 10, 42, 182, 1, 20, 167, 0, 19, 42, 42, 19, 1, 22, 182, 0, 128, 4, 182, 0, 140, 42]
abbrev dktX5_line_2 : List UInt8 := dkwX5_line_2 ++ dktX5_line_3
def dkwX5_line_1 : List UInt8 := [18, 60, 182, 0, 128, 153, 0, 10, 42, 182, 1, 16, 167, 0, 36, 42, 19, 1, 18, 182, 0, 128]
abbrev dktX5_line_1 : List UInt8 := dkwX5_line_1 ++ dktX5_line_2
def dkwX5_line_0 : List UInt8 := [42, 42, 180, 0, 39, 182, 0, 162, 60, 27, 2, 159, 0, 11, 42, 27, 182, 1, 13, 167, 0, 52, 42]
abbrev dktX5_line_0 : List UInt8 := dkwX5_line_0 ++ dktX5_line_1
theorem dksX5_line_0 : cX5_line.data.toList.drop 0 = dktX5_line_0 := by decide +kernel
theorem dksX5_line_1 : cX5_line.data.toList.drop 23 = dktX5_line_1 := dk_seg dksX5_line_0 23 rfl rfl
theorem dksX5_line_2 : cX5_line.data.toList.drop 45 = dktX5_line_2 := dk_seg dksX5_line_1 22 rfl rfl
theorem dksX5_line_3 : cX5_line.data.toList.drop 68 = dktX5_line_3 := dk_seg dksX5_line_2 23 rfl rfl
theorem dX5_line_0 : decode cX5_line 0 = .ok (.aload_n 0, 1) := dk_42 (dk_at dksX5_line_0 0 rfl rfl)
theorem dX5_line_1 : decode cX5_line 1 = .ok (.aload_n 0, 1) := dk_42 (dk_at dksX5_line_0 1 rfl rfl)
theorem dX5_line_2 : decode cX5_line 2 = .ok (.getfield 39, 3) := dk_180 0 39 (dk_at dksX5_line_0 2 rfl rfl)
theorem dX5_line_5 : decode cX5_line 5 = .ok (.invokevirtual 162, 3) := dk_182 0 162 (dk_at dksX5_line_0 5 rfl rfl)
theorem dX5_line_8 : decode cX5_line 8 = .ok (.istore_n 1, 1) := dk_60 (dk_at dksX5_line_0 8 rfl rfl)
theorem dX5_line_9 : decode cX5_line 9 = .ok (.iload_n 1, 1) := dk_27 (dk_at dksX5_line_0 9 rfl rfl)
theorem dX5_line_10 : decode cX5_line 10 = .ok (.iconst (-1), 1) := dk_2 (dk_at dksX5_line_0 10 rfl rfl)
theorem dX5_line_11 : decode cX5_line 11 = .ok (.if_icmp .eq 11, 3) := dk_159 0 11 (dk_at dksX5_line_0 11 rfl rfl)
theorem dX5_line_14 : decode cX5_line 14 = .ok (.aload_n 0, 1) := dk_42 (dk_at dksX5_line_0 14 rfl rfl)
theorem dX5_line_15 : decode cX5_line 15 = .ok (.iload_n 1, 1) := dk_27 (dk_at dksX5_line_0 15 rfl rfl)
theorem dX5_line_16 : decode cX5_line 16 = .ok (.invokevirtual 269, 3) := dk_182 1 13 (dk_at dksX5_line_0 16 rfl rfl)
theorem dX5_line_19 : decode cX5_line 19 = .ok (.goto 52, 3) := dk_167 0 52 (dk_at dksX5_line_0 19 rfl rfl)
theorem dX5_line_22 : decode cX5_line 22 = .ok (.aload_n 0, 1) := dk_42 (dk_at dksX5_line_0 22 rfl rfl)
theorem dX5_line_23 : decode cX5_line 23 = .ok (.ldc 60, 2) := dk_18 60 (dk_at dksX5_line_1 0 rfl rfl)
theorem dX5_line_25 : decode cX5_line 25 = .ok (.invokevirtual 128, 3) := dk_182 0 128 (dk_at dksX5_line_1 2 rfl rfl)
theorem dX5_line_28 : decode cX5_line 28 = .ok (.ifCond .eq 10, 3) := dk_153 0 10 (dk_at dksX5_line_1 5 rfl rfl)
theorem dX5_line_31 : decode cX5_line 31 = .ok (.aload_n 0, 1) := dk_42 (dk_at dksX5_line_1 8 rfl rfl)
theorem dX5_line_32 : decode cX5_line 32 = .ok (.invokevirtual 272, 3) := dk_182 1 16 (dk_at dksX5_line_1 9 rfl rfl)
theorem dX5_line_35 : decode cX5_line 35 = .ok (.goto 36, 3) := dk_167 0 36 (dk_at dksX5_line_1 12 rfl rfl)
theorem dX5_line_38 : decode cX5_line 38 = .ok (.aload_n 0, 1) := dk_42 (dk_at dksX5_line_1 15 rfl rfl)
theorem dX5_line_39 : decode cX5_line 39 = .ok (.ldc_w 274, 3) := dk_19 1 18 (dk_at dksX5_line_1 16 rfl rfl)
theorem dX5_line_42 : decode cX5_line 42 = .ok (.invokevirtual 128, 3) := dk_182 0 128 (dk_at dksX5_line_1 19 rfl rfl)
theorem dX5_line_45 : decode cX5_line 45 = .ok (.ifCond .eq 10, 3) := dk_153 0 10 (dk_at dksX5_line_2 0 rfl rfl)
theorem dX5_line_48 : decode cX5_line 48 = .ok (.aload_n 0, 1) := dk_42 (dk_at dksX5_line_2 3 rfl rfl)
theorem dX5_line_49 : decode cX5_line 49 = .ok (.invokevirtual 276, 3) := dk_182 1 20 (dk_at dksX5_line_2 4 rfl rfl)
theorem dX5_line_52 : decode cX5_line 52 = .ok (.goto 19, 3) := dk_167 0 19 (dk_at dksX5_line_2 7 rfl rfl)
theorem dX5_line_55 : decode cX5_line 55 = .ok (.aload_n 0, 1) := dk_42 (dk_at dksX5_line_2 10 rfl rfl)
theorem dX5_line_56 : decode cX5_line 56 = .ok (.aload_n 0, 1) := dk_42 (dk_at dksX5_line_2 11 rfl rfl)
theorem dX5_line_57 : decode cX5_line 57 = .ok (.ldc_w 278, 3) := dk_19 1 22 (dk_at dksX5_line_2 12 rfl rfl)
theorem dX5_line_60 : decode cX5_line 60 = .ok (.invokevirtual 128, 3) := dk_182 0 128 (dk_at dksX5_line_2 15 rfl rfl)
theorem dX5_line_63 : decode cX5_line 63 = .ok (.iconst 1, 1) := dk_4 (dk_at dksX5_line_2 18 rfl rfl)
theorem dX5_line_64 : decode cX5_line 64 = .ok (.invokevirtual 140, 3) := dk_182 0 140 (dk_at dksX5_line_2 19 rfl rfl)
theorem dX5_line_67 : decode cX5_line 67 = .ok (.aload_n 0, 1) := dk_42 (dk_at dksX5_line_2 22 rfl rfl)
theorem dX5_line_68 : decode cX5_line 68 = .ok (.invokevirtual 280, 3) := dk_182 1 24 (dk_at dksX5_line_3 0 rfl rfl)
theorem dX5_line_71 : decode cX5_line 71 = .ok (.aload_n 0, 1) := dk_42 (dk_at dksX5_line_3 3 rfl rfl)
theorem dX5_line_72 : decode cX5_line 72 = .ok (.aload_n 0, 1) := dk_42 (dk_at dksX5_line_3 4 rfl rfl)
theorem dX5_line_73 : decode cX5_line 73 = .ok (.bipush 59, 2) := dk_16 59 (dk_at dksX5_line_3 5 rfl rfl)
theorem dX5_line_75 : decode cX5_line 75 = .ok (.invokevirtual 154, 3) := dk_182 0 154 (dk_at dksX5_line_3 7 rfl rfl)
theorem dX5_line_78 : decode cX5_line 78 = .ok (.iconst 1, 1) := dk_4 (dk_at dksX5_line_3 10 rfl rfl)
theorem dX5_line_79 : decode cX5_line 79 = .ok (.invokevirtual 140, 3) := dk_182 0 140 (dk_at dksX5_line_3 11 rfl rfl)
theorem dX5_line_82 : decode cX5_line 82 = .ok (.aload_n 0, 1) := dk_42 (dk_at dksX5_line_3 14 rfl rfl)
theorem dX5_line_83 : decode cX5_line 83 = .ok (.invokevirtual 132, 3) := dk_182 0 132 (dk_at dksX5_line_3 15 rfl rfl)
theorem dX5_line_86 : decode cX5_line 86 = .ok (.return_, 1) := dk_177 (dk_at dksX5_line_3 18 rfl rfl)
abbrev cX5_which : ByteArray := prog_7_method_7_code
def yX5_which : MethodName := ⟨RX5, "which", "([Ljava/lang/String;)I"⟩
def dkwX5_which_1 : List UInt8 := [167, 255, 235, 2, 172]
abbrev dktX5_which_1 : List UInt8 := dkwX5_which_1 ++ []
def dkwX5_which_0 : List UInt8 := [3, 61, 28, 43, 190, 162, 0, 21, 42, 43, 28, 50, 182, 0, 128, 153, 0, 5, 28, 172, 132, 2, 1]
abbrev dktX5_which_0 : List UInt8 := dkwX5_which_0 ++ dktX5_which_1
theorem dksX5_which_0 : cX5_which.data.toList.drop 0 = dktX5_which_0 := by decide +kernel
theorem dksX5_which_1 : cX5_which.data.toList.drop 23 = dktX5_which_1 := dk_seg dksX5_which_0 23 rfl rfl
theorem dX5_which_0 : decode cX5_which 0 = .ok (.iconst 0, 1) := dk_3 (dk_at dksX5_which_0 0 rfl rfl)
theorem dX5_which_1 : decode cX5_which 1 = .ok (.istore_n 2, 1) := dk_61 (dk_at dksX5_which_0 1 rfl rfl)
theorem dX5_which_2 : decode cX5_which 2 = .ok (.iload_n 2, 1) := dk_28 (dk_at dksX5_which_0 2 rfl rfl)
theorem dX5_which_3 : decode cX5_which 3 = .ok (.aload_n 1, 1) := dk_43 (dk_at dksX5_which_0 3 rfl rfl)
theorem dX5_which_4 : decode cX5_which 4 = .ok (.arraylength, 1) := dk_190 (dk_at dksX5_which_0 4 rfl rfl)
theorem dX5_which_5 : decode cX5_which 5 = .ok (.if_icmp .ge 21, 3) := dk_162 0 21 (dk_at dksX5_which_0 5 rfl rfl)
theorem dX5_which_8 : decode cX5_which 8 = .ok (.aload_n 0, 1) := dk_42 (dk_at dksX5_which_0 8 rfl rfl)
theorem dX5_which_9 : decode cX5_which 9 = .ok (.aload_n 1, 1) := dk_43 (dk_at dksX5_which_0 9 rfl rfl)
theorem dX5_which_10 : decode cX5_which 10 = .ok (.iload_n 2, 1) := dk_28 (dk_at dksX5_which_0 10 rfl rfl)
theorem dX5_which_11 : decode cX5_which 11 = .ok (.aaload, 1) := dk_50 (dk_at dksX5_which_0 11 rfl rfl)
theorem dX5_which_12 : decode cX5_which 12 = .ok (.invokevirtual 128, 3) := dk_182 0 128 (dk_at dksX5_which_0 12 rfl rfl)
theorem dX5_which_15 : decode cX5_which 15 = .ok (.ifCond .eq 5, 3) := dk_153 0 5 (dk_at dksX5_which_0 15 rfl rfl)
theorem dX5_which_18 : decode cX5_which 18 = .ok (.iload_n 2, 1) := dk_28 (dk_at dksX5_which_0 18 rfl rfl)
theorem dX5_which_19 : decode cX5_which 19 = .ok (.ireturn, 1) := dk_172 (dk_at dksX5_which_0 19 rfl rfl)
theorem dX5_which_20 : decode cX5_which 20 = .ok (.iinc 2 1, 3) := dk_132 2 1 (dk_at dksX5_which_0 20 rfl rfl)
theorem dX5_which_23 : decode cX5_which 23 = .ok (.goto (-21), 3) := dk_167 255 235 (dk_at dksX5_which_1 0 rfl rfl)
theorem dX5_which_26 : decode cX5_which 26 = .ok (.iconst (-1), 1) := dk_2 (dk_at dksX5_which_1 3 rfl rfl)
theorem dX5_which_27 : decode cX5_which 27 = .ok (.ireturn, 1) := dk_172 (dk_at dksX5_which_1 4 rfl rfl)
abbrev cX5_is : ByteArray := prog_7_method_6_code
def yX5_is : MethodName := ⟨RX5, "is", "(Ljava/lang/String;)Z"⟩
def dkwX5_is_2 : List UInt8 := [42, 180, 0, 89, 28, 96, 51, 17, 0, 255, 126, 159, 0, 5, 3, 172, 132, 2, 1, 167, 255, 217, 4, 172]
abbrev dktX5_is_2 : List UInt8 := dkwX5_is_2 ++ []
def dkwX5_is_1 : List UInt8 := [3, 172, 3, 61, 28, 43, 182, 0, 121, 162, 0, 37, 43, 28, 182, 0, 124, 42, 180, 0, 3, 180, 0, 77]
abbrev dktX5_is_1 : List UInt8 := dkwX5_is_1 ++ dktX5_is_2
def dkwX5_is_0 : List UInt8 := [42, 180, 0, 92, 4, 160, 0, 19, 43, 182, 0, 121, 42, 180, 0, 118, 42, 180, 0, 89, 100, 159, 0, 5]
abbrev dktX5_is_0 : List UInt8 := dkwX5_is_0 ++ dktX5_is_1
theorem dksX5_is_0 : cX5_is.data.toList.drop 0 = dktX5_is_0 := by decide +kernel
theorem dksX5_is_1 : cX5_is.data.toList.drop 24 = dktX5_is_1 := dk_seg dksX5_is_0 24 rfl rfl
theorem dksX5_is_2 : cX5_is.data.toList.drop 48 = dktX5_is_2 := dk_seg dksX5_is_1 24 rfl rfl
theorem dX5_is_0 : decode cX5_is 0 = .ok (.aload_n 0, 1) := dk_42 (dk_at dksX5_is_0 0 rfl rfl)
theorem dX5_is_1 : decode cX5_is 1 = .ok (.getfield 92, 3) := dk_180 0 92 (dk_at dksX5_is_0 1 rfl rfl)
theorem dX5_is_4 : decode cX5_is 4 = .ok (.iconst 1, 1) := dk_4 (dk_at dksX5_is_0 4 rfl rfl)
theorem dX5_is_5 : decode cX5_is 5 = .ok (.if_icmp .ne 19, 3) := dk_160 0 19 (dk_at dksX5_is_0 5 rfl rfl)
theorem dX5_is_8 : decode cX5_is 8 = .ok (.aload_n 1, 1) := dk_43 (dk_at dksX5_is_0 8 rfl rfl)
theorem dX5_is_9 : decode cX5_is 9 = .ok (.invokevirtual 121, 3) := dk_182 0 121 (dk_at dksX5_is_0 9 rfl rfl)
theorem dX5_is_12 : decode cX5_is 12 = .ok (.aload_n 0, 1) := dk_42 (dk_at dksX5_is_0 12 rfl rfl)
theorem dX5_is_13 : decode cX5_is 13 = .ok (.getfield 118, 3) := dk_180 0 118 (dk_at dksX5_is_0 13 rfl rfl)
theorem dX5_is_16 : decode cX5_is 16 = .ok (.aload_n 0, 1) := dk_42 (dk_at dksX5_is_0 16 rfl rfl)
theorem dX5_is_17 : decode cX5_is 17 = .ok (.getfield 89, 3) := dk_180 0 89 (dk_at dksX5_is_0 17 rfl rfl)
theorem dX5_is_20 : decode cX5_is 20 = .ok (.isub, 1) := dk_100 (dk_at dksX5_is_0 20 rfl rfl)
theorem dX5_is_21 : decode cX5_is 21 = .ok (.if_icmp .eq 5, 3) := dk_159 0 5 (dk_at dksX5_is_0 21 rfl rfl)
theorem dX5_is_24 : decode cX5_is 24 = .ok (.iconst 0, 1) := dk_3 (dk_at dksX5_is_1 0 rfl rfl)
theorem dX5_is_25 : decode cX5_is 25 = .ok (.ireturn, 1) := dk_172 (dk_at dksX5_is_1 1 rfl rfl)
theorem dX5_is_26 : decode cX5_is 26 = .ok (.iconst 0, 1) := dk_3 (dk_at dksX5_is_1 2 rfl rfl)
theorem dX5_is_27 : decode cX5_is 27 = .ok (.istore_n 2, 1) := dk_61 (dk_at dksX5_is_1 3 rfl rfl)
theorem dX5_is_28 : decode cX5_is 28 = .ok (.iload_n 2, 1) := dk_28 (dk_at dksX5_is_1 4 rfl rfl)
theorem dX5_is_29 : decode cX5_is 29 = .ok (.aload_n 1, 1) := dk_43 (dk_at dksX5_is_1 5 rfl rfl)
theorem dX5_is_30 : decode cX5_is 30 = .ok (.invokevirtual 121, 3) := dk_182 0 121 (dk_at dksX5_is_1 6 rfl rfl)
theorem dX5_is_33 : decode cX5_is 33 = .ok (.if_icmp .ge 37, 3) := dk_162 0 37 (dk_at dksX5_is_1 9 rfl rfl)
theorem dX5_is_36 : decode cX5_is 36 = .ok (.aload_n 1, 1) := dk_43 (dk_at dksX5_is_1 12 rfl rfl)
theorem dX5_is_37 : decode cX5_is 37 = .ok (.iload_n 2, 1) := dk_28 (dk_at dksX5_is_1 13 rfl rfl)
theorem dX5_is_38 : decode cX5_is 38 = .ok (.invokevirtual 124, 3) := dk_182 0 124 (dk_at dksX5_is_1 14 rfl rfl)
theorem dX5_is_41 : decode cX5_is 41 = .ok (.aload_n 0, 1) := dk_42 (dk_at dksX5_is_1 17 rfl rfl)
theorem dX5_is_42 : decode cX5_is 42 = .ok (.getfield 3, 3) := dk_180 0 3 (dk_at dksX5_is_1 18 rfl rfl)
theorem dX5_is_45 : decode cX5_is 45 = .ok (.getfield 77, 3) := dk_180 0 77 (dk_at dksX5_is_1 21 rfl rfl)
theorem dX5_is_48 : decode cX5_is 48 = .ok (.aload_n 0, 1) := dk_42 (dk_at dksX5_is_2 0 rfl rfl)
theorem dX5_is_49 : decode cX5_is 49 = .ok (.getfield 89, 3) := dk_180 0 89 (dk_at dksX5_is_2 1 rfl rfl)
theorem dX5_is_52 : decode cX5_is 52 = .ok (.iload_n 2, 1) := dk_28 (dk_at dksX5_is_2 4 rfl rfl)
theorem dX5_is_53 : decode cX5_is 53 = .ok (.iadd, 1) := dk_96 (dk_at dksX5_is_2 5 rfl rfl)
theorem dX5_is_54 : decode cX5_is 54 = .ok (.baload, 1) := dk_51 (dk_at dksX5_is_2 6 rfl rfl)
theorem dX5_is_55 : decode cX5_is 55 = .ok (.sipush 255, 3) := dk_17 0 255 (dk_at dksX5_is_2 7 rfl rfl)
theorem dX5_is_58 : decode cX5_is 58 = .ok (.iand, 1) := dk_126 (dk_at dksX5_is_2 10 rfl rfl)
theorem dX5_is_59 : decode cX5_is 59 = .ok (.if_icmp .eq 5, 3) := dk_159 0 5 (dk_at dksX5_is_2 11 rfl rfl)
theorem dX5_is_62 : decode cX5_is 62 = .ok (.iconst 0, 1) := dk_3 (dk_at dksX5_is_2 14 rfl rfl)
theorem dX5_is_63 : decode cX5_is 63 = .ok (.ireturn, 1) := dk_172 (dk_at dksX5_is_2 15 rfl rfl)
theorem dX5_is_64 : decode cX5_is 64 = .ok (.iinc 2 1, 3) := dk_132 2 1 (dk_at dksX5_is_2 16 rfl rfl)
theorem dX5_is_67 : decode cX5_is 67 = .ok (.goto (-39), 3) := dk_167 255 217 (dk_at dksX5_is_2 19 rfl rfl)
theorem dX5_is_70 : decode cX5_is 70 = .ok (.iconst 1, 1) := dk_4 (dk_at dksX5_is_2 22 rfl rfl)
theorem dX5_is_71 : decode cX5_is 71 = .ok (.ireturn, 1) := dk_172 (dk_at dksX5_is_2 23 rfl rfl)
abbrev cX5_only : ByteArray := prog_7_method_25_code
def yX5_only : MethodName := ⟨RX5, "only", "(I)V"⟩
def dkwX5_only_4 : List UInt8 := [181, 1, 8, 167, 0, 11, 42, 180, 0, 18, 44, 181, 1, 11, 177]
abbrev dktX5_only_4 : List UInt8 := dkwX5_only_4 ++ []
def dkwX5_only_3 : List UInt8 := [180, 0, 64, 181, 0, 67, 42, 3, 182, 0, 158, 77, 27, 4, 160, 0, 14, 42, 180, 0, 18, 44]
abbrev dktX5_only_3 : List UInt8 := dkwX5_only_3 ++ dktX5_only_4
def dkwX5_only_2 : List UInt8 := [16, 8, 182, 0, 151, 181, 1, 6, 177, 42, 27, 4, 160, 0, 10, 42, 180, 0, 53, 167, 0, 7, 42]
abbrev dktX5_only_2 : List UInt8 := dkwX5_only_2 ++ dktX5_only_3
def dkwX5_only_1 : List UInt8 := [180, 1, 0, 4, 27, 120, 128, 181, 1, 0, 42, 182, 0, 132, 27, 154, 0, 18, 42, 180, 0, 18, 42, 3]
abbrev dktX5_only_1 : List UInt8 := dkwX5_only_1 ++ dktX5_only_2
def dkwX5_only_0 : List UInt8 := [42, 42, 180, 1, 0, 27, 184, 1, 3, 154, 0, 7, 4, 167, 0, 4, 3, 8, 182, 0, 140, 42, 89]
abbrev dktX5_only_0 : List UInt8 := dkwX5_only_0 ++ dktX5_only_1
theorem dksX5_only_0 : cX5_only.data.toList.drop 0 = dktX5_only_0 := by decide +kernel
theorem dksX5_only_1 : cX5_only.data.toList.drop 23 = dktX5_only_1 := dk_seg dksX5_only_0 23 rfl rfl
theorem dksX5_only_2 : cX5_only.data.toList.drop 47 = dktX5_only_2 := dk_seg dksX5_only_1 24 rfl rfl
theorem dksX5_only_3 : cX5_only.data.toList.drop 70 = dktX5_only_3 := dk_seg dksX5_only_2 23 rfl rfl
theorem dksX5_only_4 : cX5_only.data.toList.drop 92 = dktX5_only_4 := dk_seg dksX5_only_3 22 rfl rfl
theorem dX5_only_0 : decode cX5_only 0 = .ok (.aload_n 0, 1) := dk_42 (dk_at dksX5_only_0 0 rfl rfl)
theorem dX5_only_1 : decode cX5_only 1 = .ok (.aload_n 0, 1) := dk_42 (dk_at dksX5_only_0 1 rfl rfl)
theorem dX5_only_2 : decode cX5_only 2 = .ok (.getfield 256, 3) := dk_180 1 0 (dk_at dksX5_only_0 2 rfl rfl)
theorem dX5_only_5 : decode cX5_only 5 = .ok (.iload_n 1, 1) := dk_27 (dk_at dksX5_only_0 5 rfl rfl)
theorem dX5_only_6 : decode cX5_only 6 = .ok (.invokestatic 259, 3) := dk_184 1 3 (dk_at dksX5_only_0 6 rfl rfl)
theorem dX5_only_9 : decode cX5_only 9 = .ok (.ifCond .ne 7, 3) := dk_154 0 7 (dk_at dksX5_only_0 9 rfl rfl)
theorem dX5_only_12 : decode cX5_only 12 = .ok (.iconst 1, 1) := dk_4 (dk_at dksX5_only_0 12 rfl rfl)
theorem dX5_only_13 : decode cX5_only 13 = .ok (.goto 4, 3) := dk_167 0 4 (dk_at dksX5_only_0 13 rfl rfl)
theorem dX5_only_16 : decode cX5_only 16 = .ok (.iconst 0, 1) := dk_3 (dk_at dksX5_only_0 16 rfl rfl)
theorem dX5_only_17 : decode cX5_only 17 = .ok (.iconst 5, 1) := dk_8 (dk_at dksX5_only_0 17 rfl rfl)
theorem dX5_only_18 : decode cX5_only 18 = .ok (.invokevirtual 140, 3) := dk_182 0 140 (dk_at dksX5_only_0 18 rfl rfl)
theorem dX5_only_21 : decode cX5_only 21 = .ok (.aload_n 0, 1) := dk_42 (dk_at dksX5_only_0 21 rfl rfl)
theorem dX5_only_22 : decode cX5_only 22 = .ok (.dup, 1) := dk_89 (dk_at dksX5_only_0 22 rfl rfl)
theorem dX5_only_23 : decode cX5_only 23 = .ok (.getfield 256, 3) := dk_180 1 0 (dk_at dksX5_only_1 0 rfl rfl)
theorem dX5_only_26 : decode cX5_only 26 = .ok (.iconst 1, 1) := dk_4 (dk_at dksX5_only_1 3 rfl rfl)
theorem dX5_only_27 : decode cX5_only 27 = .ok (.iload_n 1, 1) := dk_27 (dk_at dksX5_only_1 4 rfl rfl)
theorem dX5_only_28 : decode cX5_only 28 = .ok (.ishl, 1) := dk_120 (dk_at dksX5_only_1 5 rfl rfl)
theorem dX5_only_29 : decode cX5_only 29 = .ok (.ior, 1) := dk_128 (dk_at dksX5_only_1 6 rfl rfl)
theorem dX5_only_30 : decode cX5_only 30 = .ok (.putfield 256, 3) := dk_181 1 0 (dk_at dksX5_only_1 7 rfl rfl)
theorem dX5_only_33 : decode cX5_only 33 = .ok (.aload_n 0, 1) := dk_42 (dk_at dksX5_only_1 10 rfl rfl)
theorem dX5_only_34 : decode cX5_only 34 = .ok (.invokevirtual 132, 3) := dk_182 0 132 (dk_at dksX5_only_1 11 rfl rfl)
theorem dX5_only_37 : decode cX5_only 37 = .ok (.iload_n 1, 1) := dk_27 (dk_at dksX5_only_1 14 rfl rfl)
theorem dX5_only_38 : decode cX5_only 38 = .ok (.ifCond .ne 18, 3) := dk_154 0 18 (dk_at dksX5_only_1 15 rfl rfl)
theorem dX5_only_41 : decode cX5_only 41 = .ok (.aload_n 0, 1) := dk_42 (dk_at dksX5_only_1 18 rfl rfl)
theorem dX5_only_42 : decode cX5_only 42 = .ok (.getfield 18, 3) := dk_180 0 18 (dk_at dksX5_only_1 19 rfl rfl)
theorem dX5_only_45 : decode cX5_only 45 = .ok (.aload_n 0, 1) := dk_42 (dk_at dksX5_only_1 22 rfl rfl)
theorem dX5_only_46 : decode cX5_only 46 = .ok (.iconst 0, 1) := dk_3 (dk_at dksX5_only_1 23 rfl rfl)
theorem dX5_only_47 : decode cX5_only 47 = .ok (.bipush 8, 2) := dk_16 8 (dk_at dksX5_only_2 0 rfl rfl)
theorem dX5_only_49 : decode cX5_only 49 = .ok (.invokevirtual 151, 3) := dk_182 0 151 (dk_at dksX5_only_2 2 rfl rfl)
theorem dX5_only_52 : decode cX5_only 52 = .ok (.putfield 262, 3) := dk_181 1 6 (dk_at dksX5_only_2 5 rfl rfl)
theorem dX5_only_55 : decode cX5_only 55 = .ok (.return_, 1) := dk_177 (dk_at dksX5_only_2 8 rfl rfl)
theorem dX5_only_56 : decode cX5_only 56 = .ok (.aload_n 0, 1) := dk_42 (dk_at dksX5_only_2 9 rfl rfl)
theorem dX5_only_57 : decode cX5_only 57 = .ok (.iload_n 1, 1) := dk_27 (dk_at dksX5_only_2 10 rfl rfl)
theorem dX5_only_58 : decode cX5_only 58 = .ok (.iconst 1, 1) := dk_4 (dk_at dksX5_only_2 11 rfl rfl)
theorem dX5_only_59 : decode cX5_only 59 = .ok (.if_icmp .ne 10, 3) := dk_160 0 10 (dk_at dksX5_only_2 12 rfl rfl)
theorem dX5_only_62 : decode cX5_only 62 = .ok (.aload_n 0, 1) := dk_42 (dk_at dksX5_only_2 15 rfl rfl)
theorem dX5_only_63 : decode cX5_only 63 = .ok (.getfield 53, 3) := dk_180 0 53 (dk_at dksX5_only_2 16 rfl rfl)
theorem dX5_only_66 : decode cX5_only 66 = .ok (.goto 7, 3) := dk_167 0 7 (dk_at dksX5_only_2 19 rfl rfl)
theorem dX5_only_69 : decode cX5_only 69 = .ok (.aload_n 0, 1) := dk_42 (dk_at dksX5_only_2 22 rfl rfl)
theorem dX5_only_70 : decode cX5_only 70 = .ok (.getfield 64, 3) := dk_180 0 64 (dk_at dksX5_only_3 0 rfl rfl)
theorem dX5_only_73 : decode cX5_only 73 = .ok (.putfield 67, 3) := dk_181 0 67 (dk_at dksX5_only_3 3 rfl rfl)
theorem dX5_only_76 : decode cX5_only 76 = .ok (.aload_n 0, 1) := dk_42 (dk_at dksX5_only_3 6 rfl rfl)
theorem dX5_only_77 : decode cX5_only 77 = .ok (.iconst 0, 1) := dk_3 (dk_at dksX5_only_3 7 rfl rfl)
theorem dX5_only_78 : decode cX5_only 78 = .ok (.invokevirtual 158, 3) := dk_182 0 158 (dk_at dksX5_only_3 8 rfl rfl)
theorem dX5_only_81 : decode cX5_only 81 = .ok (.astore_n 2, 1) := dk_77 (dk_at dksX5_only_3 11 rfl rfl)
theorem dX5_only_82 : decode cX5_only 82 = .ok (.iload_n 1, 1) := dk_27 (dk_at dksX5_only_3 12 rfl rfl)
theorem dX5_only_83 : decode cX5_only 83 = .ok (.iconst 1, 1) := dk_4 (dk_at dksX5_only_3 13 rfl rfl)
theorem dX5_only_84 : decode cX5_only 84 = .ok (.if_icmp .ne 14, 3) := dk_160 0 14 (dk_at dksX5_only_3 14 rfl rfl)
theorem dX5_only_87 : decode cX5_only 87 = .ok (.aload_n 0, 1) := dk_42 (dk_at dksX5_only_3 17 rfl rfl)
theorem dX5_only_88 : decode cX5_only 88 = .ok (.getfield 18, 3) := dk_180 0 18 (dk_at dksX5_only_3 18 rfl rfl)
theorem dX5_only_91 : decode cX5_only 91 = .ok (.aload_n 2, 1) := dk_44 (dk_at dksX5_only_3 21 rfl rfl)
theorem dX5_only_92 : decode cX5_only 92 = .ok (.putfield 264, 3) := dk_181 1 8 (dk_at dksX5_only_4 0 rfl rfl)
theorem dX5_only_95 : decode cX5_only 95 = .ok (.goto 11, 3) := dk_167 0 11 (dk_at dksX5_only_4 3 rfl rfl)
theorem dX5_only_98 : decode cX5_only 98 = .ok (.aload_n 0, 1) := dk_42 (dk_at dksX5_only_4 6 rfl rfl)
theorem dX5_only_99 : decode cX5_only 99 = .ok (.getfield 18, 3) := dk_180 0 18 (dk_at dksX5_only_4 7 rfl rfl)
theorem dX5_only_102 : decode cX5_only 102 = .ok (.aload_n 2, 1) := dk_44 (dk_at dksX5_only_4 10 rfl rfl)
theorem dX5_only_103 : decode cX5_only 103 = .ok (.putfield 267, 3) := dk_181 1 11 (dk_at dksX5_only_4 11 rfl rfl)
theorem dX5_only_106 : decode cX5_only 106 = .ok (.return_, 1) := dk_177 (dk_at dksX5_only_4 14 rfl rfl)
abbrev cX5_want : ByteArray := prog_7_method_10_code
def yX5_want : MethodName := ⟨RX5, "want", "(ZI)V"⟩
def dkwX5_want_0 : List UInt8 := [27, 154, 0, 12, 187, 0, 135, 89, 28, 183, 0, 137, 191, 177]
abbrev dktX5_want_0 : List UInt8 := dkwX5_want_0 ++ []
theorem dksX5_want_0 : cX5_want.data.toList.drop 0 = dktX5_want_0 := by decide +kernel
theorem dX5_want_0 : decode cX5_want 0 = .ok (.iload_n 1, 1) := dk_27 (dk_at dksX5_want_0 0 rfl rfl)
theorem dX5_want_1 : decode cX5_want 1 = .ok (.ifCond .ne 12, 3) := dk_154 0 12 (dk_at dksX5_want_0 1 rfl rfl)
theorem dX5_want_4 : decode cX5_want 4 = .ok (.new 135, 3) := dk_187 0 135 (dk_at dksX5_want_0 4 rfl rfl)
theorem dX5_want_7 : decode cX5_want 7 = .ok (.dup, 1) := dk_89 (dk_at dksX5_want_0 7 rfl rfl)
theorem dX5_want_8 : decode cX5_want 8 = .ok (.iload_n 2, 1) := dk_28 (dk_at dksX5_want_0 8 rfl rfl)
theorem dX5_want_9 : decode cX5_want 9 = .ok (.invokespecial 137, 3) := dk_183 0 137 (dk_at dksX5_want_0 9 rfl rfl)
theorem dX5_want_12 : decode cX5_want 12 = .ok (.athrow, 1) := dk_191 (dk_at dksX5_want_0 12 rfl rfl)
theorem dX5_want_13 : decode cX5_want 13 = .ok (.return_, 1) := dk_177 (dk_at dksX5_want_0 13 rfl rfl)
abbrev cX5_number : ByteArray := prog_7_method_12_code
def yX5_number : MethodName := ⟨RX5, "number", "(II)I"⟩
def dkwX5_number_0 : List UInt8 := [42, 27, 28, 182, 0, 144, 62, 42, 182, 0, 132, 29, 172]
abbrev dktX5_number_0 : List UInt8 := dkwX5_number_0 ++ []
theorem dksX5_number_0 : cX5_number.data.toList.drop 0 = dktX5_number_0 := by decide +kernel
theorem dX5_number_0 : decode cX5_number 0 = .ok (.aload_n 0, 1) := dk_42 (dk_at dksX5_number_0 0 rfl rfl)
theorem dX5_number_1 : decode cX5_number 1 = .ok (.iload_n 1, 1) := dk_27 (dk_at dksX5_number_0 1 rfl rfl)
theorem dX5_number_2 : decode cX5_number 2 = .ok (.iload_n 2, 1) := dk_28 (dk_at dksX5_number_0 2 rfl rfl)
theorem dX5_number_3 : decode cX5_number 3 = .ok (.invokevirtual 144, 3) := dk_182 0 144 (dk_at dksX5_number_0 3 rfl rfl)
theorem dX5_number_6 : decode cX5_number 6 = .ok (.istore_n 3, 1) := dk_62 (dk_at dksX5_number_0 6 rfl rfl)
theorem dX5_number_7 : decode cX5_number 7 = .ok (.aload_n 0, 1) := dk_42 (dk_at dksX5_number_0 7 rfl rfl)
theorem dX5_number_8 : decode cX5_number 8 = .ok (.invokevirtual 132, 3) := dk_182 0 132 (dk_at dksX5_number_0 8 rfl rfl)
theorem dX5_number_11 : decode cX5_number 11 = .ok (.iload_n 3, 1) := dk_29 (dk_at dksX5_number_0 11 rfl rfl)
theorem dX5_number_12 : decode cX5_number 12 = .ok (.ireturn, 1) := dk_172 (dk_at dksX5_number_0 12 rfl rfl)
abbrev cX5_numberNow : ByteArray := prog_7_method_11_code
def yX5_numberNow : MethodName := ⟨RX5, "numberNow", "(II)I"⟩
def dkwX5_numberNow_2 : List UInt8 := [4, 167, 0, 4, 3, 5, 182, 0, 140, 42, 180, 0, 102, 172]
abbrev dktX5_numberNow_2 : List UInt8 := dkwX5_numberNow_2 ++ []
def dkwX5_numberNow_1 : List UInt8 := [180, 0, 89, 100, 7, 163, 0, 23, 42, 180, 0, 102, 27, 161, 0, 15, 42, 180, 0, 102, 28, 163, 0, 7]
abbrev dktX5_numberNow_1 : List UInt8 := dkwX5_numberNow_1 ++ dktX5_numberNow_2
def dkwX5_numberNow_0 : List UInt8 := [42, 42, 180, 0, 92, 5, 160, 0, 7, 4, 167, 0, 4, 3, 4, 182, 0, 140, 42, 42, 180, 0, 118, 42]
abbrev dktX5_numberNow_0 : List UInt8 := dkwX5_numberNow_0 ++ dktX5_numberNow_1
theorem dksX5_numberNow_0 : cX5_numberNow.data.toList.drop 0 = dktX5_numberNow_0 := by decide +kernel
theorem dksX5_numberNow_1 : cX5_numberNow.data.toList.drop 24 = dktX5_numberNow_1 := dk_seg dksX5_numberNow_0 24 rfl rfl
theorem dksX5_numberNow_2 : cX5_numberNow.data.toList.drop 48 = dktX5_numberNow_2 := dk_seg dksX5_numberNow_1 24 rfl rfl
theorem dX5_numberNow_0 : decode cX5_numberNow 0 = .ok (.aload_n 0, 1) := dk_42 (dk_at dksX5_numberNow_0 0 rfl rfl)
theorem dX5_numberNow_1 : decode cX5_numberNow 1 = .ok (.aload_n 0, 1) := dk_42 (dk_at dksX5_numberNow_0 1 rfl rfl)
theorem dX5_numberNow_2 : decode cX5_numberNow 2 = .ok (.getfield 92, 3) := dk_180 0 92 (dk_at dksX5_numberNow_0 2 rfl rfl)
theorem dX5_numberNow_5 : decode cX5_numberNow 5 = .ok (.iconst 2, 1) := dk_5 (dk_at dksX5_numberNow_0 5 rfl rfl)
theorem dX5_numberNow_6 : decode cX5_numberNow 6 = .ok (.if_icmp .ne 7, 3) := dk_160 0 7 (dk_at dksX5_numberNow_0 6 rfl rfl)
theorem dX5_numberNow_9 : decode cX5_numberNow 9 = .ok (.iconst 1, 1) := dk_4 (dk_at dksX5_numberNow_0 9 rfl rfl)
theorem dX5_numberNow_10 : decode cX5_numberNow 10 = .ok (.goto 4, 3) := dk_167 0 4 (dk_at dksX5_numberNow_0 10 rfl rfl)
theorem dX5_numberNow_13 : decode cX5_numberNow 13 = .ok (.iconst 0, 1) := dk_3 (dk_at dksX5_numberNow_0 13 rfl rfl)
theorem dX5_numberNow_14 : decode cX5_numberNow 14 = .ok (.iconst 1, 1) := dk_4 (dk_at dksX5_numberNow_0 14 rfl rfl)
theorem dX5_numberNow_15 : decode cX5_numberNow 15 = .ok (.invokevirtual 140, 3) := dk_182 0 140 (dk_at dksX5_numberNow_0 15 rfl rfl)
theorem dX5_numberNow_18 : decode cX5_numberNow 18 = .ok (.aload_n 0, 1) := dk_42 (dk_at dksX5_numberNow_0 18 rfl rfl)
theorem dX5_numberNow_19 : decode cX5_numberNow 19 = .ok (.aload_n 0, 1) := dk_42 (dk_at dksX5_numberNow_0 19 rfl rfl)
theorem dX5_numberNow_20 : decode cX5_numberNow 20 = .ok (.getfield 118, 3) := dk_180 0 118 (dk_at dksX5_numberNow_0 20 rfl rfl)
theorem dX5_numberNow_23 : decode cX5_numberNow 23 = .ok (.aload_n 0, 1) := dk_42 (dk_at dksX5_numberNow_0 23 rfl rfl)
theorem dX5_numberNow_24 : decode cX5_numberNow 24 = .ok (.getfield 89, 3) := dk_180 0 89 (dk_at dksX5_numberNow_1 0 rfl rfl)
theorem dX5_numberNow_27 : decode cX5_numberNow 27 = .ok (.isub, 1) := dk_100 (dk_at dksX5_numberNow_1 3 rfl rfl)
theorem dX5_numberNow_28 : decode cX5_numberNow 28 = .ok (.iconst 4, 1) := dk_7 (dk_at dksX5_numberNow_1 4 rfl rfl)
theorem dX5_numberNow_29 : decode cX5_numberNow 29 = .ok (.if_icmp .gt 23, 3) := dk_163 0 23 (dk_at dksX5_numberNow_1 5 rfl rfl)
theorem dX5_numberNow_32 : decode cX5_numberNow 32 = .ok (.aload_n 0, 1) := dk_42 (dk_at dksX5_numberNow_1 8 rfl rfl)
theorem dX5_numberNow_33 : decode cX5_numberNow 33 = .ok (.getfield 102, 3) := dk_180 0 102 (dk_at dksX5_numberNow_1 9 rfl rfl)
theorem dX5_numberNow_36 : decode cX5_numberNow 36 = .ok (.iload_n 1, 1) := dk_27 (dk_at dksX5_numberNow_1 12 rfl rfl)
theorem dX5_numberNow_37 : decode cX5_numberNow 37 = .ok (.if_icmp .lt 15, 3) := dk_161 0 15 (dk_at dksX5_numberNow_1 13 rfl rfl)
theorem dX5_numberNow_40 : decode cX5_numberNow 40 = .ok (.aload_n 0, 1) := dk_42 (dk_at dksX5_numberNow_1 16 rfl rfl)
theorem dX5_numberNow_41 : decode cX5_numberNow 41 = .ok (.getfield 102, 3) := dk_180 0 102 (dk_at dksX5_numberNow_1 17 rfl rfl)
theorem dX5_numberNow_44 : decode cX5_numberNow 44 = .ok (.iload_n 2, 1) := dk_28 (dk_at dksX5_numberNow_1 20 rfl rfl)
theorem dX5_numberNow_45 : decode cX5_numberNow 45 = .ok (.if_icmp .gt 7, 3) := dk_163 0 7 (dk_at dksX5_numberNow_1 21 rfl rfl)
theorem dX5_numberNow_48 : decode cX5_numberNow 48 = .ok (.iconst 1, 1) := dk_4 (dk_at dksX5_numberNow_2 0 rfl rfl)
theorem dX5_numberNow_49 : decode cX5_numberNow 49 = .ok (.goto 4, 3) := dk_167 0 4 (dk_at dksX5_numberNow_2 1 rfl rfl)
theorem dX5_numberNow_52 : decode cX5_numberNow 52 = .ok (.iconst 0, 1) := dk_3 (dk_at dksX5_numberNow_2 4 rfl rfl)
theorem dX5_numberNow_53 : decode cX5_numberNow 53 = .ok (.iconst 2, 1) := dk_5 (dk_at dksX5_numberNow_2 5 rfl rfl)
theorem dX5_numberNow_54 : decode cX5_numberNow 54 = .ok (.invokevirtual 140, 3) := dk_182 0 140 (dk_at dksX5_numberNow_2 6 rfl rfl)
theorem dX5_numberNow_57 : decode cX5_numberNow 57 = .ok (.aload_n 0, 1) := dk_42 (dk_at dksX5_numberNow_2 9 rfl rfl)
theorem dX5_numberNow_58 : decode cX5_numberNow 58 = .ok (.getfield 102, 3) := dk_180 0 102 (dk_at dksX5_numberNow_2 10 rfl rfl)
theorem dX5_numberNow_61 : decode cX5_numberNow 61 = .ok (.ireturn, 1) := dk_172 (dk_at dksX5_numberNow_2 13 rfl rfl)
abbrev cX5_expression : ByteArray := prog_7_method_20_code
def yX5_expression : MethodName := ⟨RX5, "expression", "(I)LTwinInk$Form;"⟩
def dkwX5_expression_3 : List UInt8 := [153, 0, 17, 44, 16, 124, 42, 27, 182, 0, 207, 182, 0, 181, 167, 255, 236, 44, 182, 0, 185, 176]
abbrev dktX5_expression_3 : List UInt8 := dkwX5_expression_3 ++ []
def dkwX5_expression_2 : List UInt8 := [5, 182, 0, 140, 187, 0, 169, 89, 42, 27, 182, 0, 207, 183, 0, 174, 77, 42, 18, 209, 182, 0, 204]
abbrev dktX5_expression_2 : List UInt8 := dkwX5_expression_2 ++ dktX5_expression_3
def dkwX5_expression_1 : List UInt8 := [153, 0, 7, 4, 167, 0, 4, 3, 4, 182, 0, 140, 42, 27, 16, 6, 162, 0, 7, 4, 167, 0, 4, 3]
abbrev dktX5_expression_1 : List UInt8 := dkwX5_expression_1 ++ dktX5_expression_2
def dkwX5_expression_0 : List UInt8 := [42, 42, 180, 0, 92, 5, 159, 0, 20, 42, 180, 0, 92, 4, 159, 0, 12, 42, 16, 40, 182, 0, 154]
abbrev dktX5_expression_0 : List UInt8 := dkwX5_expression_0 ++ dktX5_expression_1
theorem dksX5_expression_0 : cX5_expression.data.toList.drop 0 = dktX5_expression_0 := by decide +kernel
theorem dksX5_expression_1 : cX5_expression.data.toList.drop 23 = dktX5_expression_1 := dk_seg dksX5_expression_0 23 rfl rfl
theorem dksX5_expression_2 : cX5_expression.data.toList.drop 47 = dktX5_expression_2 := dk_seg dksX5_expression_1 24 rfl rfl
theorem dksX5_expression_3 : cX5_expression.data.toList.drop 70 = dktX5_expression_3 := dk_seg dksX5_expression_2 23 rfl rfl
theorem dX5_expression_0 : decode cX5_expression 0 = .ok (.aload_n 0, 1) := dk_42 (dk_at dksX5_expression_0 0 rfl rfl)
theorem dX5_expression_1 : decode cX5_expression 1 = .ok (.aload_n 0, 1) := dk_42 (dk_at dksX5_expression_0 1 rfl rfl)
theorem dX5_expression_2 : decode cX5_expression 2 = .ok (.getfield 92, 3) := dk_180 0 92 (dk_at dksX5_expression_0 2 rfl rfl)
theorem dX5_expression_5 : decode cX5_expression 5 = .ok (.iconst 2, 1) := dk_5 (dk_at dksX5_expression_0 5 rfl rfl)
theorem dX5_expression_6 : decode cX5_expression 6 = .ok (.if_icmp .eq 20, 3) := dk_159 0 20 (dk_at dksX5_expression_0 6 rfl rfl)
theorem dX5_expression_9 : decode cX5_expression 9 = .ok (.aload_n 0, 1) := dk_42 (dk_at dksX5_expression_0 9 rfl rfl)
theorem dX5_expression_10 : decode cX5_expression 10 = .ok (.getfield 92, 3) := dk_180 0 92 (dk_at dksX5_expression_0 10 rfl rfl)
theorem dX5_expression_13 : decode cX5_expression 13 = .ok (.iconst 1, 1) := dk_4 (dk_at dksX5_expression_0 13 rfl rfl)
theorem dX5_expression_14 : decode cX5_expression 14 = .ok (.if_icmp .eq 12, 3) := dk_159 0 12 (dk_at dksX5_expression_0 14 rfl rfl)
theorem dX5_expression_17 : decode cX5_expression 17 = .ok (.aload_n 0, 1) := dk_42 (dk_at dksX5_expression_0 17 rfl rfl)
theorem dX5_expression_18 : decode cX5_expression 18 = .ok (.bipush 40, 2) := dk_16 40 (dk_at dksX5_expression_0 18 rfl rfl)
theorem dX5_expression_20 : decode cX5_expression 20 = .ok (.invokevirtual 154, 3) := dk_182 0 154 (dk_at dksX5_expression_0 20 rfl rfl)
theorem dX5_expression_23 : decode cX5_expression 23 = .ok (.ifCond .eq 7, 3) := dk_153 0 7 (dk_at dksX5_expression_1 0 rfl rfl)
theorem dX5_expression_26 : decode cX5_expression 26 = .ok (.iconst 1, 1) := dk_4 (dk_at dksX5_expression_1 3 rfl rfl)
theorem dX5_expression_27 : decode cX5_expression 27 = .ok (.goto 4, 3) := dk_167 0 4 (dk_at dksX5_expression_1 4 rfl rfl)
theorem dX5_expression_30 : decode cX5_expression 30 = .ok (.iconst 0, 1) := dk_3 (dk_at dksX5_expression_1 7 rfl rfl)
theorem dX5_expression_31 : decode cX5_expression 31 = .ok (.iconst 1, 1) := dk_4 (dk_at dksX5_expression_1 8 rfl rfl)
theorem dX5_expression_32 : decode cX5_expression 32 = .ok (.invokevirtual 140, 3) := dk_182 0 140 (dk_at dksX5_expression_1 9 rfl rfl)
theorem dX5_expression_35 : decode cX5_expression 35 = .ok (.aload_n 0, 1) := dk_42 (dk_at dksX5_expression_1 12 rfl rfl)
theorem dX5_expression_36 : decode cX5_expression 36 = .ok (.iload_n 1, 1) := dk_27 (dk_at dksX5_expression_1 13 rfl rfl)
theorem dX5_expression_37 : decode cX5_expression 37 = .ok (.bipush 6, 2) := dk_16 6 (dk_at dksX5_expression_1 14 rfl rfl)
theorem dX5_expression_39 : decode cX5_expression 39 = .ok (.if_icmp .ge 7, 3) := dk_162 0 7 (dk_at dksX5_expression_1 16 rfl rfl)
theorem dX5_expression_42 : decode cX5_expression 42 = .ok (.iconst 1, 1) := dk_4 (dk_at dksX5_expression_1 19 rfl rfl)
theorem dX5_expression_43 : decode cX5_expression 43 = .ok (.goto 4, 3) := dk_167 0 4 (dk_at dksX5_expression_1 20 rfl rfl)
theorem dX5_expression_46 : decode cX5_expression 46 = .ok (.iconst 0, 1) := dk_3 (dk_at dksX5_expression_1 23 rfl rfl)
theorem dX5_expression_47 : decode cX5_expression 47 = .ok (.iconst 2, 1) := dk_5 (dk_at dksX5_expression_2 0 rfl rfl)
theorem dX5_expression_48 : decode cX5_expression 48 = .ok (.invokevirtual 140, 3) := dk_182 0 140 (dk_at dksX5_expression_2 1 rfl rfl)
theorem dX5_expression_51 : decode cX5_expression 51 = .ok (.new 169, 3) := dk_187 0 169 (dk_at dksX5_expression_2 4 rfl rfl)
theorem dX5_expression_54 : decode cX5_expression 54 = .ok (.dup, 1) := dk_89 (dk_at dksX5_expression_2 7 rfl rfl)
theorem dX5_expression_55 : decode cX5_expression 55 = .ok (.aload_n 0, 1) := dk_42 (dk_at dksX5_expression_2 8 rfl rfl)
theorem dX5_expression_56 : decode cX5_expression 56 = .ok (.iload_n 1, 1) := dk_27 (dk_at dksX5_expression_2 9 rfl rfl)
theorem dX5_expression_57 : decode cX5_expression 57 = .ok (.invokevirtual 207, 3) := dk_182 0 207 (dk_at dksX5_expression_2 10 rfl rfl)
theorem dX5_expression_60 : decode cX5_expression 60 = .ok (.invokespecial 174, 3) := dk_183 0 174 (dk_at dksX5_expression_2 13 rfl rfl)
theorem dX5_expression_63 : decode cX5_expression 63 = .ok (.astore_n 2, 1) := dk_77 (dk_at dksX5_expression_2 16 rfl rfl)
theorem dX5_expression_64 : decode cX5_expression 64 = .ok (.aload_n 0, 1) := dk_42 (dk_at dksX5_expression_2 17 rfl rfl)
theorem dX5_expression_65 : decode cX5_expression 65 = .ok (.ldc 209, 2) := dk_18 209 (dk_at dksX5_expression_2 18 rfl rfl)
theorem dX5_expression_67 : decode cX5_expression 67 = .ok (.invokevirtual 204, 3) := dk_182 0 204 (dk_at dksX5_expression_2 20 rfl rfl)
theorem dX5_expression_70 : decode cX5_expression 70 = .ok (.ifCond .eq 17, 3) := dk_153 0 17 (dk_at dksX5_expression_3 0 rfl rfl)
theorem dX5_expression_73 : decode cX5_expression 73 = .ok (.aload_n 2, 1) := dk_44 (dk_at dksX5_expression_3 3 rfl rfl)
theorem dX5_expression_74 : decode cX5_expression 74 = .ok (.bipush 124, 2) := dk_16 124 (dk_at dksX5_expression_3 4 rfl rfl)
theorem dX5_expression_76 : decode cX5_expression 76 = .ok (.aload_n 0, 1) := dk_42 (dk_at dksX5_expression_3 6 rfl rfl)
theorem dX5_expression_77 : decode cX5_expression 77 = .ok (.iload_n 1, 1) := dk_27 (dk_at dksX5_expression_3 7 rfl rfl)
theorem dX5_expression_78 : decode cX5_expression 78 = .ok (.invokevirtual 207, 3) := dk_182 0 207 (dk_at dksX5_expression_3 8 rfl rfl)
theorem dX5_expression_81 : decode cX5_expression 81 = .ok (.invokevirtual 181, 3) := dk_182 0 181 (dk_at dksX5_expression_3 11 rfl rfl)
theorem dX5_expression_84 : decode cX5_expression 84 = .ok (.goto (-20), 3) := dk_167 255 236 (dk_at dksX5_expression_3 14 rfl rfl)
theorem dX5_expression_87 : decode cX5_expression 87 = .ok (.aload_n 2, 1) := dk_44 (dk_at dksX5_expression_3 17 rfl rfl)
theorem dX5_expression_88 : decode cX5_expression 88 = .ok (.invokevirtual 185, 3) := dk_182 0 185 (dk_at dksX5_expression_3 18 rfl rfl)
theorem dX5_expression_91 : decode cX5_expression 91 = .ok (.areturn, 1) := dk_176 (dk_at dksX5_expression_3 21 rfl rfl)
abbrev cX5_isSign : ByteArray := prog_7_method_8_code
def yX5_isSign : MethodName := ⟨RX5, "isSign", "(C)Z"⟩
def dkwX5_isSign_1 : List UInt8 := [4, 167, 0, 4, 3, 172]
abbrev dktX5_isSign_1 : List UInt8 := dkwX5_isSign_1 ++ []
def dkwX5_isSign_0 : List UInt8 := [42, 180, 0, 92, 6, 160, 0, 23, 42, 180, 0, 3, 180, 0, 77, 42, 180, 0, 89, 51, 27, 160, 0, 7]
abbrev dktX5_isSign_0 : List UInt8 := dkwX5_isSign_0 ++ dktX5_isSign_1
theorem dksX5_isSign_0 : cX5_isSign.data.toList.drop 0 = dktX5_isSign_0 := by decide +kernel
theorem dksX5_isSign_1 : cX5_isSign.data.toList.drop 24 = dktX5_isSign_1 := dk_seg dksX5_isSign_0 24 rfl rfl
theorem dX5_isSign_0 : decode cX5_isSign 0 = .ok (.aload_n 0, 1) := dk_42 (dk_at dksX5_isSign_0 0 rfl rfl)
theorem dX5_isSign_1 : decode cX5_isSign 1 = .ok (.getfield 92, 3) := dk_180 0 92 (dk_at dksX5_isSign_0 1 rfl rfl)
theorem dX5_isSign_4 : decode cX5_isSign 4 = .ok (.iconst 3, 1) := dk_6 (dk_at dksX5_isSign_0 4 rfl rfl)
theorem dX5_isSign_5 : decode cX5_isSign 5 = .ok (.if_icmp .ne 23, 3) := dk_160 0 23 (dk_at dksX5_isSign_0 5 rfl rfl)
theorem dX5_isSign_8 : decode cX5_isSign 8 = .ok (.aload_n 0, 1) := dk_42 (dk_at dksX5_isSign_0 8 rfl rfl)
theorem dX5_isSign_9 : decode cX5_isSign 9 = .ok (.getfield 3, 3) := dk_180 0 3 (dk_at dksX5_isSign_0 9 rfl rfl)
theorem dX5_isSign_12 : decode cX5_isSign 12 = .ok (.getfield 77, 3) := dk_180 0 77 (dk_at dksX5_isSign_0 12 rfl rfl)
theorem dX5_isSign_15 : decode cX5_isSign 15 = .ok (.aload_n 0, 1) := dk_42 (dk_at dksX5_isSign_0 15 rfl rfl)
theorem dX5_isSign_16 : decode cX5_isSign 16 = .ok (.getfield 89, 3) := dk_180 0 89 (dk_at dksX5_isSign_0 16 rfl rfl)
theorem dX5_isSign_19 : decode cX5_isSign 19 = .ok (.baload, 1) := dk_51 (dk_at dksX5_isSign_0 19 rfl rfl)
theorem dX5_isSign_20 : decode cX5_isSign 20 = .ok (.iload_n 1, 1) := dk_27 (dk_at dksX5_isSign_0 20 rfl rfl)
theorem dX5_isSign_21 : decode cX5_isSign 21 = .ok (.if_icmp .ne 7, 3) := dk_160 0 7 (dk_at dksX5_isSign_0 21 rfl rfl)
theorem dX5_isSign_24 : decode cX5_isSign 24 = .ok (.iconst 1, 1) := dk_4 (dk_at dksX5_isSign_1 0 rfl rfl)
theorem dX5_isSign_25 : decode cX5_isSign 25 = .ok (.goto 4, 3) := dk_167 0 4 (dk_at dksX5_isSign_1 1 rfl rfl)
theorem dX5_isSign_28 : decode cX5_isSign 28 = .ok (.iconst 0, 1) := dk_3 (dk_at dksX5_isSign_1 4 rfl rfl)
theorem dX5_isSign_29 : decode cX5_isSign 29 = .ok (.ireturn, 1) := dk_172 (dk_at dksX5_isSign_1 5 rfl rfl)
abbrev cX5_and : ByteArray := prog_7_method_19_code
def yX5_and : MethodName := ⟨RX5, "and", "(I)LTwinInk$Form;"⟩
def dkwX5_and_1 : List UInt8 := [16, 38, 42, 27, 182, 0, 200, 182, 0, 181, 167, 255, 236, 44, 182, 0, 185, 176]
abbrev dktX5_and_1 : List UInt8 := dkwX5_and_1 ++ []
def dkwX5_and_0 : List UInt8 := [187, 0, 169, 89, 42, 27, 182, 0, 200, 183, 0, 174, 77, 42, 18, 202, 182, 0, 204, 153, 0, 17, 44]
abbrev dktX5_and_0 : List UInt8 := dkwX5_and_0 ++ dktX5_and_1
theorem dksX5_and_0 : cX5_and.data.toList.drop 0 = dktX5_and_0 := by decide +kernel
theorem dksX5_and_1 : cX5_and.data.toList.drop 23 = dktX5_and_1 := dk_seg dksX5_and_0 23 rfl rfl
theorem dX5_and_0 : decode cX5_and 0 = .ok (.new 169, 3) := dk_187 0 169 (dk_at dksX5_and_0 0 rfl rfl)
theorem dX5_and_3 : decode cX5_and 3 = .ok (.dup, 1) := dk_89 (dk_at dksX5_and_0 3 rfl rfl)
theorem dX5_and_4 : decode cX5_and 4 = .ok (.aload_n 0, 1) := dk_42 (dk_at dksX5_and_0 4 rfl rfl)
theorem dX5_and_5 : decode cX5_and 5 = .ok (.iload_n 1, 1) := dk_27 (dk_at dksX5_and_0 5 rfl rfl)
theorem dX5_and_6 : decode cX5_and 6 = .ok (.invokevirtual 200, 3) := dk_182 0 200 (dk_at dksX5_and_0 6 rfl rfl)
theorem dX5_and_9 : decode cX5_and 9 = .ok (.invokespecial 174, 3) := dk_183 0 174 (dk_at dksX5_and_0 9 rfl rfl)
theorem dX5_and_12 : decode cX5_and 12 = .ok (.astore_n 2, 1) := dk_77 (dk_at dksX5_and_0 12 rfl rfl)
theorem dX5_and_13 : decode cX5_and 13 = .ok (.aload_n 0, 1) := dk_42 (dk_at dksX5_and_0 13 rfl rfl)
theorem dX5_and_14 : decode cX5_and 14 = .ok (.ldc 202, 2) := dk_18 202 (dk_at dksX5_and_0 14 rfl rfl)
theorem dX5_and_16 : decode cX5_and 16 = .ok (.invokevirtual 204, 3) := dk_182 0 204 (dk_at dksX5_and_0 16 rfl rfl)
theorem dX5_and_19 : decode cX5_and 19 = .ok (.ifCond .eq 17, 3) := dk_153 0 17 (dk_at dksX5_and_0 19 rfl rfl)
theorem dX5_and_22 : decode cX5_and 22 = .ok (.aload_n 2, 1) := dk_44 (dk_at dksX5_and_0 22 rfl rfl)
theorem dX5_and_23 : decode cX5_and 23 = .ok (.bipush 38, 2) := dk_16 38 (dk_at dksX5_and_1 0 rfl rfl)
theorem dX5_and_25 : decode cX5_and 25 = .ok (.aload_n 0, 1) := dk_42 (dk_at dksX5_and_1 2 rfl rfl)
theorem dX5_and_26 : decode cX5_and 26 = .ok (.iload_n 1, 1) := dk_27 (dk_at dksX5_and_1 3 rfl rfl)
theorem dX5_and_27 : decode cX5_and 27 = .ok (.invokevirtual 200, 3) := dk_182 0 200 (dk_at dksX5_and_1 4 rfl rfl)
theorem dX5_and_30 : decode cX5_and 30 = .ok (.invokevirtual 181, 3) := dk_182 0 181 (dk_at dksX5_and_1 7 rfl rfl)
theorem dX5_and_33 : decode cX5_and 33 = .ok (.goto (-20), 3) := dk_167 255 236 (dk_at dksX5_and_1 10 rfl rfl)
theorem dX5_and_36 : decode cX5_and 36 = .ok (.aload_n 2, 1) := dk_44 (dk_at dksX5_and_1 13 rfl rfl)
theorem dX5_and_37 : decode cX5_and 37 = .ok (.invokevirtual 185, 3) := dk_182 0 185 (dk_at dksX5_and_1 14 rfl rfl)
theorem dX5_and_40 : decode cX5_and 40 = .ok (.areturn, 1) := dk_176 (dk_at dksX5_and_1 17 rfl rfl)
abbrev cX5_not : ByteArray := prog_7_method_18_code
def yX5_not : MethodName := ⟨RX5, "not", "(I)LTwinInk$Form;"⟩
def dkwX5_not_5 : List UInt8 := [167, 255, 236, 25, 4, 176]
abbrev dktX5_not_5 : List UInt8 := dkwX5_not_5 ++ []
def dkwX5_not_4 : List UInt8 := [54, 5, 21, 5, 28, 162, 0, 20, 187, 0, 197, 89, 25, 4, 183, 0, 199, 58, 4, 132, 5, 1]
abbrev dktX5_not_4 : List UInt8 := dkwX5_not_4 ++ dktX5_not_5
def dkwX5_not_3 : List UInt8 := [182, 0, 177, 54, 4, 45, 21, 4, 42, 27, 182, 0, 194, 182, 0, 181, 45, 182, 0, 185, 58, 4, 3]
abbrev dktX5_not_3 : List UInt8 := dkwX5_not_3 ++ dktX5_not_4
def dkwX5_not_2 : List UInt8 := [183, 0, 174, 78, 42, 16, 60, 182, 0, 154, 154, 0, 12, 42, 16, 61, 182, 0, 154, 153, 0, 20, 42]
abbrev dktX5_not_2 : List UInt8 := dkwX5_not_2 ++ dktX5_not_3
def dkwX5_not_1 : List UInt8 := [182, 0, 140, 132, 2, 1, 42, 182, 0, 132, 167, 255, 224, 187, 0, 169, 89, 42, 27, 182, 0, 194]
abbrev dktX5_not_1 : List UInt8 := dkwX5_not_1 ++ dktX5_not_2
def dkwX5_not_0 : List UInt8 := [3, 61, 42, 18, 192, 182, 0, 128, 153, 0, 29, 42, 28, 16, 6, 162, 0, 7, 4, 167, 0, 4, 3, 5]
abbrev dktX5_not_0 : List UInt8 := dkwX5_not_0 ++ dktX5_not_1
theorem dksX5_not_0 : cX5_not.data.toList.drop 0 = dktX5_not_0 := by decide +kernel
theorem dksX5_not_1 : cX5_not.data.toList.drop 24 = dktX5_not_1 := dk_seg dksX5_not_0 24 rfl rfl
theorem dksX5_not_2 : cX5_not.data.toList.drop 46 = dktX5_not_2 := dk_seg dksX5_not_1 22 rfl rfl
theorem dksX5_not_3 : cX5_not.data.toList.drop 69 = dktX5_not_3 := dk_seg dksX5_not_2 23 rfl rfl
theorem dksX5_not_4 : cX5_not.data.toList.drop 92 = dktX5_not_4 := dk_seg dksX5_not_3 23 rfl rfl
theorem dksX5_not_5 : cX5_not.data.toList.drop 114 = dktX5_not_5 := dk_seg dksX5_not_4 22 rfl rfl
theorem dX5_not_0 : decode cX5_not 0 = .ok (.iconst 0, 1) := dk_3 (dk_at dksX5_not_0 0 rfl rfl)
theorem dX5_not_1 : decode cX5_not 1 = .ok (.istore_n 2, 1) := dk_61 (dk_at dksX5_not_0 1 rfl rfl)
theorem dX5_not_2 : decode cX5_not 2 = .ok (.aload_n 0, 1) := dk_42 (dk_at dksX5_not_0 2 rfl rfl)
theorem dX5_not_3 : decode cX5_not 3 = .ok (.ldc 192, 2) := dk_18 192 (dk_at dksX5_not_0 3 rfl rfl)
theorem dX5_not_5 : decode cX5_not 5 = .ok (.invokevirtual 128, 3) := dk_182 0 128 (dk_at dksX5_not_0 5 rfl rfl)
theorem dX5_not_8 : decode cX5_not 8 = .ok (.ifCond .eq 29, 3) := dk_153 0 29 (dk_at dksX5_not_0 8 rfl rfl)
theorem dX5_not_11 : decode cX5_not 11 = .ok (.aload_n 0, 1) := dk_42 (dk_at dksX5_not_0 11 rfl rfl)
theorem dX5_not_12 : decode cX5_not 12 = .ok (.iload_n 2, 1) := dk_28 (dk_at dksX5_not_0 12 rfl rfl)
theorem dX5_not_13 : decode cX5_not 13 = .ok (.bipush 6, 2) := dk_16 6 (dk_at dksX5_not_0 13 rfl rfl)
theorem dX5_not_15 : decode cX5_not 15 = .ok (.if_icmp .ge 7, 3) := dk_162 0 7 (dk_at dksX5_not_0 15 rfl rfl)
theorem dX5_not_18 : decode cX5_not 18 = .ok (.iconst 1, 1) := dk_4 (dk_at dksX5_not_0 18 rfl rfl)
theorem dX5_not_19 : decode cX5_not 19 = .ok (.goto 4, 3) := dk_167 0 4 (dk_at dksX5_not_0 19 rfl rfl)
theorem dX5_not_22 : decode cX5_not 22 = .ok (.iconst 0, 1) := dk_3 (dk_at dksX5_not_0 22 rfl rfl)
theorem dX5_not_23 : decode cX5_not 23 = .ok (.iconst 2, 1) := dk_5 (dk_at dksX5_not_0 23 rfl rfl)
theorem dX5_not_24 : decode cX5_not 24 = .ok (.invokevirtual 140, 3) := dk_182 0 140 (dk_at dksX5_not_1 0 rfl rfl)
theorem dX5_not_27 : decode cX5_not 27 = .ok (.iinc 2 1, 3) := dk_132 2 1 (dk_at dksX5_not_1 3 rfl rfl)
theorem dX5_not_30 : decode cX5_not 30 = .ok (.aload_n 0, 1) := dk_42 (dk_at dksX5_not_1 6 rfl rfl)
theorem dX5_not_31 : decode cX5_not 31 = .ok (.invokevirtual 132, 3) := dk_182 0 132 (dk_at dksX5_not_1 7 rfl rfl)
theorem dX5_not_34 : decode cX5_not 34 = .ok (.goto (-32), 3) := dk_167 255 224 (dk_at dksX5_not_1 10 rfl rfl)
theorem dX5_not_37 : decode cX5_not 37 = .ok (.new 169, 3) := dk_187 0 169 (dk_at dksX5_not_1 13 rfl rfl)
theorem dX5_not_40 : decode cX5_not 40 = .ok (.dup, 1) := dk_89 (dk_at dksX5_not_1 16 rfl rfl)
theorem dX5_not_41 : decode cX5_not 41 = .ok (.aload_n 0, 1) := dk_42 (dk_at dksX5_not_1 17 rfl rfl)
theorem dX5_not_42 : decode cX5_not 42 = .ok (.iload_n 1, 1) := dk_27 (dk_at dksX5_not_1 18 rfl rfl)
theorem dX5_not_43 : decode cX5_not 43 = .ok (.invokevirtual 194, 3) := dk_182 0 194 (dk_at dksX5_not_1 19 rfl rfl)
theorem dX5_not_46 : decode cX5_not 46 = .ok (.invokespecial 174, 3) := dk_183 0 174 (dk_at dksX5_not_2 0 rfl rfl)
theorem dX5_not_49 : decode cX5_not 49 = .ok (.astore_n 3, 1) := dk_78 (dk_at dksX5_not_2 3 rfl rfl)
theorem dX5_not_50 : decode cX5_not 50 = .ok (.aload_n 0, 1) := dk_42 (dk_at dksX5_not_2 4 rfl rfl)
theorem dX5_not_51 : decode cX5_not 51 = .ok (.bipush 60, 2) := dk_16 60 (dk_at dksX5_not_2 5 rfl rfl)
theorem dX5_not_53 : decode cX5_not 53 = .ok (.invokevirtual 154, 3) := dk_182 0 154 (dk_at dksX5_not_2 7 rfl rfl)
theorem dX5_not_56 : decode cX5_not 56 = .ok (.ifCond .ne 12, 3) := dk_154 0 12 (dk_at dksX5_not_2 10 rfl rfl)
theorem dX5_not_59 : decode cX5_not 59 = .ok (.aload_n 0, 1) := dk_42 (dk_at dksX5_not_2 13 rfl rfl)
theorem dX5_not_60 : decode cX5_not 60 = .ok (.bipush 61, 2) := dk_16 61 (dk_at dksX5_not_2 14 rfl rfl)
theorem dX5_not_62 : decode cX5_not 62 = .ok (.invokevirtual 154, 3) := dk_182 0 154 (dk_at dksX5_not_2 16 rfl rfl)
theorem dX5_not_65 : decode cX5_not 65 = .ok (.ifCond .eq 20, 3) := dk_153 0 20 (dk_at dksX5_not_2 19 rfl rfl)
theorem dX5_not_68 : decode cX5_not 68 = .ok (.aload_n 0, 1) := dk_42 (dk_at dksX5_not_2 22 rfl rfl)
theorem dX5_not_69 : decode cX5_not 69 = .ok (.invokevirtual 177, 3) := dk_182 0 177 (dk_at dksX5_not_3 0 rfl rfl)
theorem dX5_not_72 : decode cX5_not 72 = .ok (.istore 4, 2) := dk_54 4 (dk_at dksX5_not_3 3 rfl rfl)
theorem dX5_not_74 : decode cX5_not 74 = .ok (.aload_n 3, 1) := dk_45 (dk_at dksX5_not_3 5 rfl rfl)
theorem dX5_not_75 : decode cX5_not 75 = .ok (.iload 4, 2) := dk_21 4 (dk_at dksX5_not_3 6 rfl rfl)
theorem dX5_not_77 : decode cX5_not 77 = .ok (.aload_n 0, 1) := dk_42 (dk_at dksX5_not_3 8 rfl rfl)
theorem dX5_not_78 : decode cX5_not 78 = .ok (.iload_n 1, 1) := dk_27 (dk_at dksX5_not_3 9 rfl rfl)
theorem dX5_not_79 : decode cX5_not 79 = .ok (.invokevirtual 194, 3) := dk_182 0 194 (dk_at dksX5_not_3 10 rfl rfl)
theorem dX5_not_82 : decode cX5_not 82 = .ok (.invokevirtual 181, 3) := dk_182 0 181 (dk_at dksX5_not_3 13 rfl rfl)
theorem dX5_not_85 : decode cX5_not 85 = .ok (.aload_n 3, 1) := dk_45 (dk_at dksX5_not_3 16 rfl rfl)
theorem dX5_not_86 : decode cX5_not 86 = .ok (.invokevirtual 185, 3) := dk_182 0 185 (dk_at dksX5_not_3 17 rfl rfl)
theorem dX5_not_89 : decode cX5_not 89 = .ok (.astore 4, 2) := dk_58 4 (dk_at dksX5_not_3 20 rfl rfl)
theorem dX5_not_91 : decode cX5_not 91 = .ok (.iconst 0, 1) := dk_3 (dk_at dksX5_not_3 22 rfl rfl)
theorem dX5_not_92 : decode cX5_not 92 = .ok (.istore 5, 2) := dk_54 5 (dk_at dksX5_not_4 0 rfl rfl)
theorem dX5_not_94 : decode cX5_not 94 = .ok (.iload 5, 2) := dk_21 5 (dk_at dksX5_not_4 2 rfl rfl)
theorem dX5_not_96 : decode cX5_not 96 = .ok (.iload_n 2, 1) := dk_28 (dk_at dksX5_not_4 4 rfl rfl)
theorem dX5_not_97 : decode cX5_not 97 = .ok (.if_icmp .ge 20, 3) := dk_162 0 20 (dk_at dksX5_not_4 5 rfl rfl)
theorem dX5_not_100 : decode cX5_not 100 = .ok (.new 197, 3) := dk_187 0 197 (dk_at dksX5_not_4 8 rfl rfl)
theorem dX5_not_103 : decode cX5_not 103 = .ok (.dup, 1) := dk_89 (dk_at dksX5_not_4 11 rfl rfl)
theorem dX5_not_104 : decode cX5_not 104 = .ok (.aload 4, 2) := dk_25 4 (dk_at dksX5_not_4 12 rfl rfl)
theorem dX5_not_106 : decode cX5_not 106 = .ok (.invokespecial 199, 3) := dk_183 0 199 (dk_at dksX5_not_4 14 rfl rfl)
theorem dX5_not_109 : decode cX5_not 109 = .ok (.astore 4, 2) := dk_58 4 (dk_at dksX5_not_4 17 rfl rfl)
theorem dX5_not_111 : decode cX5_not 111 = .ok (.iinc 5 1, 3) := dk_132 5 1 (dk_at dksX5_not_4 19 rfl rfl)
theorem dX5_not_114 : decode cX5_not 114 = .ok (.goto (-20), 3) := dk_167 255 236 (dk_at dksX5_not_5 0 rfl rfl)
theorem dX5_not_117 : decode cX5_not 117 = .ok (.aload 4, 2) := dk_25 4 (dk_at dksX5_not_5 3 rfl rfl)
theorem dX5_not_119 : decode cX5_not 119 = .ok (.areturn, 1) := dk_176 (dk_at dksX5_not_5 5 rfl rfl)
abbrev cX5_sum : ByteArray := prog_7_method_17_code
def yX5_sum : MethodName := ⟨RX5, "sum", "(I)LTwinInk$Form;"⟩
def dkwX5_sum_2 : List UInt8 := [167, 255, 223, 44, 182, 0, 185, 176]
abbrev dktX5_sum_2 : List UInt8 := dkwX5_sum_2 ++ []
def dkwX5_sum_1 : List UInt8 := [16, 45, 182, 0, 154, 153, 0, 21, 42, 182, 0, 177, 62, 44, 29, 42, 27, 182, 0, 189, 182, 0, 181]
abbrev dktX5_sum_1 : List UInt8 := dkwX5_sum_1 ++ dktX5_sum_2
def dkwX5_sum_0 : List UInt8 := [187, 0, 169, 89, 42, 27, 182, 0, 189, 183, 0, 174, 77, 42, 16, 43, 182, 0, 154, 154, 0, 12, 42]
abbrev dktX5_sum_0 : List UInt8 := dkwX5_sum_0 ++ dktX5_sum_1
theorem dksX5_sum_0 : cX5_sum.data.toList.drop 0 = dktX5_sum_0 := by decide +kernel
theorem dksX5_sum_1 : cX5_sum.data.toList.drop 23 = dktX5_sum_1 := dk_seg dksX5_sum_0 23 rfl rfl
theorem dksX5_sum_2 : cX5_sum.data.toList.drop 46 = dktX5_sum_2 := dk_seg dksX5_sum_1 23 rfl rfl
theorem dX5_sum_0 : decode cX5_sum 0 = .ok (.new 169, 3) := dk_187 0 169 (dk_at dksX5_sum_0 0 rfl rfl)
theorem dX5_sum_3 : decode cX5_sum 3 = .ok (.dup, 1) := dk_89 (dk_at dksX5_sum_0 3 rfl rfl)
theorem dX5_sum_4 : decode cX5_sum 4 = .ok (.aload_n 0, 1) := dk_42 (dk_at dksX5_sum_0 4 rfl rfl)
theorem dX5_sum_5 : decode cX5_sum 5 = .ok (.iload_n 1, 1) := dk_27 (dk_at dksX5_sum_0 5 rfl rfl)
theorem dX5_sum_6 : decode cX5_sum 6 = .ok (.invokevirtual 189, 3) := dk_182 0 189 (dk_at dksX5_sum_0 6 rfl rfl)
theorem dX5_sum_9 : decode cX5_sum 9 = .ok (.invokespecial 174, 3) := dk_183 0 174 (dk_at dksX5_sum_0 9 rfl rfl)
theorem dX5_sum_12 : decode cX5_sum 12 = .ok (.astore_n 2, 1) := dk_77 (dk_at dksX5_sum_0 12 rfl rfl)
theorem dX5_sum_13 : decode cX5_sum 13 = .ok (.aload_n 0, 1) := dk_42 (dk_at dksX5_sum_0 13 rfl rfl)
theorem dX5_sum_14 : decode cX5_sum 14 = .ok (.bipush 43, 2) := dk_16 43 (dk_at dksX5_sum_0 14 rfl rfl)
theorem dX5_sum_16 : decode cX5_sum 16 = .ok (.invokevirtual 154, 3) := dk_182 0 154 (dk_at dksX5_sum_0 16 rfl rfl)
theorem dX5_sum_19 : decode cX5_sum 19 = .ok (.ifCond .ne 12, 3) := dk_154 0 12 (dk_at dksX5_sum_0 19 rfl rfl)
theorem dX5_sum_22 : decode cX5_sum 22 = .ok (.aload_n 0, 1) := dk_42 (dk_at dksX5_sum_0 22 rfl rfl)
theorem dX5_sum_23 : decode cX5_sum 23 = .ok (.bipush 45, 2) := dk_16 45 (dk_at dksX5_sum_1 0 rfl rfl)
theorem dX5_sum_25 : decode cX5_sum 25 = .ok (.invokevirtual 154, 3) := dk_182 0 154 (dk_at dksX5_sum_1 2 rfl rfl)
theorem dX5_sum_28 : decode cX5_sum 28 = .ok (.ifCond .eq 21, 3) := dk_153 0 21 (dk_at dksX5_sum_1 5 rfl rfl)
theorem dX5_sum_31 : decode cX5_sum 31 = .ok (.aload_n 0, 1) := dk_42 (dk_at dksX5_sum_1 8 rfl rfl)
theorem dX5_sum_32 : decode cX5_sum 32 = .ok (.invokevirtual 177, 3) := dk_182 0 177 (dk_at dksX5_sum_1 9 rfl rfl)
theorem dX5_sum_35 : decode cX5_sum 35 = .ok (.istore_n 3, 1) := dk_62 (dk_at dksX5_sum_1 12 rfl rfl)
theorem dX5_sum_36 : decode cX5_sum 36 = .ok (.aload_n 2, 1) := dk_44 (dk_at dksX5_sum_1 13 rfl rfl)
theorem dX5_sum_37 : decode cX5_sum 37 = .ok (.iload_n 3, 1) := dk_29 (dk_at dksX5_sum_1 14 rfl rfl)
theorem dX5_sum_38 : decode cX5_sum 38 = .ok (.aload_n 0, 1) := dk_42 (dk_at dksX5_sum_1 15 rfl rfl)
theorem dX5_sum_39 : decode cX5_sum 39 = .ok (.iload_n 1, 1) := dk_27 (dk_at dksX5_sum_1 16 rfl rfl)
theorem dX5_sum_40 : decode cX5_sum 40 = .ok (.invokevirtual 189, 3) := dk_182 0 189 (dk_at dksX5_sum_1 17 rfl rfl)
theorem dX5_sum_43 : decode cX5_sum 43 = .ok (.invokevirtual 181, 3) := dk_182 0 181 (dk_at dksX5_sum_1 20 rfl rfl)
theorem dX5_sum_46 : decode cX5_sum 46 = .ok (.goto (-33), 3) := dk_167 255 223 (dk_at dksX5_sum_2 0 rfl rfl)
theorem dX5_sum_49 : decode cX5_sum 49 = .ok (.aload_n 2, 1) := dk_44 (dk_at dksX5_sum_2 3 rfl rfl)
theorem dX5_sum_50 : decode cX5_sum 50 = .ok (.invokevirtual 185, 3) := dk_182 0 185 (dk_at dksX5_sum_2 4 rfl rfl)
theorem dX5_sum_53 : decode cX5_sum 53 = .ok (.areturn, 1) := dk_176 (dk_at dksX5_sum_2 7 rfl rfl)
abbrev cX5_product : ByteArray := prog_7_method_16_code
def yX5_product : MethodName := ⟨RX5, "product", "(I)LTwinInk$Form;"⟩
def dkwX5_product_2 : List UInt8 := [167, 255, 223, 44, 182, 0, 185, 176]
abbrev dktX5_product_2 : List UInt8 := dkwX5_product_2 ++ []
def dkwX5_product_1 : List UInt8 := [16, 47, 182, 0, 154, 153, 0, 21, 42, 182, 0, 177, 62, 44, 29, 42, 27, 182, 0, 171, 182, 0, 181]
abbrev dktX5_product_1 : List UInt8 := dkwX5_product_1 ++ dktX5_product_2
def dkwX5_product_0 : List UInt8 := [187, 0, 169, 89, 42, 27, 182, 0, 171, 183, 0, 174, 77, 42, 16, 42, 182, 0, 154, 154, 0, 12, 42]
abbrev dktX5_product_0 : List UInt8 := dkwX5_product_0 ++ dktX5_product_1
theorem dksX5_product_0 : cX5_product.data.toList.drop 0 = dktX5_product_0 := by decide +kernel
theorem dksX5_product_1 : cX5_product.data.toList.drop 23 = dktX5_product_1 := dk_seg dksX5_product_0 23 rfl rfl
theorem dksX5_product_2 : cX5_product.data.toList.drop 46 = dktX5_product_2 := dk_seg dksX5_product_1 23 rfl rfl
theorem dX5_product_0 : decode cX5_product 0 = .ok (.new 169, 3) := dk_187 0 169 (dk_at dksX5_product_0 0 rfl rfl)
theorem dX5_product_3 : decode cX5_product 3 = .ok (.dup, 1) := dk_89 (dk_at dksX5_product_0 3 rfl rfl)
theorem dX5_product_4 : decode cX5_product 4 = .ok (.aload_n 0, 1) := dk_42 (dk_at dksX5_product_0 4 rfl rfl)
theorem dX5_product_5 : decode cX5_product 5 = .ok (.iload_n 1, 1) := dk_27 (dk_at dksX5_product_0 5 rfl rfl)
theorem dX5_product_6 : decode cX5_product 6 = .ok (.invokevirtual 171, 3) := dk_182 0 171 (dk_at dksX5_product_0 6 rfl rfl)
theorem dX5_product_9 : decode cX5_product 9 = .ok (.invokespecial 174, 3) := dk_183 0 174 (dk_at dksX5_product_0 9 rfl rfl)
theorem dX5_product_12 : decode cX5_product 12 = .ok (.astore_n 2, 1) := dk_77 (dk_at dksX5_product_0 12 rfl rfl)
theorem dX5_product_13 : decode cX5_product 13 = .ok (.aload_n 0, 1) := dk_42 (dk_at dksX5_product_0 13 rfl rfl)
theorem dX5_product_14 : decode cX5_product 14 = .ok (.bipush 42, 2) := dk_16 42 (dk_at dksX5_product_0 14 rfl rfl)
theorem dX5_product_16 : decode cX5_product 16 = .ok (.invokevirtual 154, 3) := dk_182 0 154 (dk_at dksX5_product_0 16 rfl rfl)
theorem dX5_product_19 : decode cX5_product 19 = .ok (.ifCond .ne 12, 3) := dk_154 0 12 (dk_at dksX5_product_0 19 rfl rfl)
theorem dX5_product_22 : decode cX5_product 22 = .ok (.aload_n 0, 1) := dk_42 (dk_at dksX5_product_0 22 rfl rfl)
theorem dX5_product_23 : decode cX5_product 23 = .ok (.bipush 47, 2) := dk_16 47 (dk_at dksX5_product_1 0 rfl rfl)
theorem dX5_product_25 : decode cX5_product 25 = .ok (.invokevirtual 154, 3) := dk_182 0 154 (dk_at dksX5_product_1 2 rfl rfl)
theorem dX5_product_28 : decode cX5_product 28 = .ok (.ifCond .eq 21, 3) := dk_153 0 21 (dk_at dksX5_product_1 5 rfl rfl)
theorem dX5_product_31 : decode cX5_product 31 = .ok (.aload_n 0, 1) := dk_42 (dk_at dksX5_product_1 8 rfl rfl)
theorem dX5_product_32 : decode cX5_product 32 = .ok (.invokevirtual 177, 3) := dk_182 0 177 (dk_at dksX5_product_1 9 rfl rfl)
theorem dX5_product_35 : decode cX5_product 35 = .ok (.istore_n 3, 1) := dk_62 (dk_at dksX5_product_1 12 rfl rfl)
theorem dX5_product_36 : decode cX5_product 36 = .ok (.aload_n 2, 1) := dk_44 (dk_at dksX5_product_1 13 rfl rfl)
theorem dX5_product_37 : decode cX5_product 37 = .ok (.iload_n 3, 1) := dk_29 (dk_at dksX5_product_1 14 rfl rfl)
theorem dX5_product_38 : decode cX5_product 38 = .ok (.aload_n 0, 1) := dk_42 (dk_at dksX5_product_1 15 rfl rfl)
theorem dX5_product_39 : decode cX5_product 39 = .ok (.iload_n 1, 1) := dk_27 (dk_at dksX5_product_1 16 rfl rfl)
theorem dX5_product_40 : decode cX5_product 40 = .ok (.invokevirtual 171, 3) := dk_182 0 171 (dk_at dksX5_product_1 17 rfl rfl)
theorem dX5_product_43 : decode cX5_product 43 = .ok (.invokevirtual 181, 3) := dk_182 0 181 (dk_at dksX5_product_1 20 rfl rfl)
theorem dX5_product_46 : decode cX5_product 46 = .ok (.goto (-33), 3) := dk_167 255 223 (dk_at dksX5_product_2 0 rfl rfl)
theorem dX5_product_49 : decode cX5_product 49 = .ok (.aload_n 2, 1) := dk_44 (dk_at dksX5_product_2 3 rfl rfl)
theorem dX5_product_50 : decode cX5_product 50 = .ok (.invokevirtual 185, 3) := dk_182 0 185 (dk_at dksX5_product_2 4 rfl rfl)
theorem dX5_product_53 : decode cX5_product 53 = .ok (.areturn, 1) := dk_176 (dk_at dksX5_product_2 7 rfl rfl)
abbrev cX5_part : ByteArray := prog_7_method_14_code
def yX5_part : MethodName := ⟨RX5, "part", "(I)LTwinInk$Form;"⟩
def dkwX5_part_4 : List UInt8 := [4, 167, 0, 4, 3, 6, 182, 0, 140, 42, 182, 0, 132, 187, 0, 166, 89, 28, 183, 0, 168, 176]
abbrev dktX5_part_4 : List UInt8 := dkwX5_part_4 ++ []
def dkwX5_part_3 : List UInt8 := [4, 167, 0, 4, 3, 4, 182, 0, 140, 42, 42, 180, 0, 67, 182, 0, 162, 61, 42, 28, 2, 159, 0, 7]
abbrev dktX5_part_3 : List UInt8 := dkwX5_part_3 ++ dktX5_part_4
def dkwX5_part_2 : List UInt8 := [16, 41, 182, 0, 154, 4, 182, 0, 140, 42, 182, 0, 132, 44, 176, 42, 42, 180, 0, 92, 4, 160, 0, 7]
abbrev dktX5_part_2 : List UInt8 := dkwX5_part_2 ++ dktX5_part_3
def dkwX5_part_1 : List UInt8 := [42, 16, 40, 182, 0, 154, 153, 0, 32, 42, 182, 0, 132, 42, 27, 4, 96, 182, 0, 158, 77, 42, 42]
abbrev dktX5_part_1 : List UInt8 := dkwX5_part_1 ++ dktX5_part_2
def dkwX5_part_0 : List UInt8 := [42, 180, 0, 92, 5, 160, 0, 19, 187, 0, 149, 89, 42, 3, 17, 39, 15, 182, 0, 151, 183, 0, 153, 176]
abbrev dktX5_part_0 : List UInt8 := dkwX5_part_0 ++ dktX5_part_1
theorem dksX5_part_0 : cX5_part.data.toList.drop 0 = dktX5_part_0 := by decide +kernel
theorem dksX5_part_1 : cX5_part.data.toList.drop 24 = dktX5_part_1 := dk_seg dksX5_part_0 24 rfl rfl
theorem dksX5_part_2 : cX5_part.data.toList.drop 47 = dktX5_part_2 := dk_seg dksX5_part_1 23 rfl rfl
theorem dksX5_part_3 : cX5_part.data.toList.drop 71 = dktX5_part_3 := dk_seg dksX5_part_2 24 rfl rfl
theorem dksX5_part_4 : cX5_part.data.toList.drop 95 = dktX5_part_4 := dk_seg dksX5_part_3 24 rfl rfl
theorem dX5_part_0 : decode cX5_part 0 = .ok (.aload_n 0, 1) := dk_42 (dk_at dksX5_part_0 0 rfl rfl)
theorem dX5_part_1 : decode cX5_part 1 = .ok (.getfield 92, 3) := dk_180 0 92 (dk_at dksX5_part_0 1 rfl rfl)
theorem dX5_part_4 : decode cX5_part 4 = .ok (.iconst 2, 1) := dk_5 (dk_at dksX5_part_0 4 rfl rfl)
theorem dX5_part_5 : decode cX5_part 5 = .ok (.if_icmp .ne 19, 3) := dk_160 0 19 (dk_at dksX5_part_0 5 rfl rfl)
theorem dX5_part_8 : decode cX5_part 8 = .ok (.new 149, 3) := dk_187 0 149 (dk_at dksX5_part_0 8 rfl rfl)
theorem dX5_part_11 : decode cX5_part 11 = .ok (.dup, 1) := dk_89 (dk_at dksX5_part_0 11 rfl rfl)
theorem dX5_part_12 : decode cX5_part 12 = .ok (.aload_n 0, 1) := dk_42 (dk_at dksX5_part_0 12 rfl rfl)
theorem dX5_part_13 : decode cX5_part 13 = .ok (.iconst 0, 1) := dk_3 (dk_at dksX5_part_0 13 rfl rfl)
theorem dX5_part_14 : decode cX5_part 14 = .ok (.sipush 9999, 3) := dk_17 39 15 (dk_at dksX5_part_0 14 rfl rfl)
theorem dX5_part_17 : decode cX5_part 17 = .ok (.invokevirtual 151, 3) := dk_182 0 151 (dk_at dksX5_part_0 17 rfl rfl)
theorem dX5_part_20 : decode cX5_part 20 = .ok (.invokespecial 153, 3) := dk_183 0 153 (dk_at dksX5_part_0 20 rfl rfl)
theorem dX5_part_23 : decode cX5_part 23 = .ok (.areturn, 1) := dk_176 (dk_at dksX5_part_0 23 rfl rfl)
theorem dX5_part_24 : decode cX5_part 24 = .ok (.aload_n 0, 1) := dk_42 (dk_at dksX5_part_1 0 rfl rfl)
theorem dX5_part_25 : decode cX5_part 25 = .ok (.bipush 40, 2) := dk_16 40 (dk_at dksX5_part_1 1 rfl rfl)
theorem dX5_part_27 : decode cX5_part 27 = .ok (.invokevirtual 154, 3) := dk_182 0 154 (dk_at dksX5_part_1 3 rfl rfl)
theorem dX5_part_30 : decode cX5_part 30 = .ok (.ifCond .eq 32, 3) := dk_153 0 32 (dk_at dksX5_part_1 6 rfl rfl)
theorem dX5_part_33 : decode cX5_part 33 = .ok (.aload_n 0, 1) := dk_42 (dk_at dksX5_part_1 9 rfl rfl)
theorem dX5_part_34 : decode cX5_part 34 = .ok (.invokevirtual 132, 3) := dk_182 0 132 (dk_at dksX5_part_1 10 rfl rfl)
theorem dX5_part_37 : decode cX5_part 37 = .ok (.aload_n 0, 1) := dk_42 (dk_at dksX5_part_1 13 rfl rfl)
theorem dX5_part_38 : decode cX5_part 38 = .ok (.iload_n 1, 1) := dk_27 (dk_at dksX5_part_1 14 rfl rfl)
theorem dX5_part_39 : decode cX5_part 39 = .ok (.iconst 1, 1) := dk_4 (dk_at dksX5_part_1 15 rfl rfl)
theorem dX5_part_40 : decode cX5_part 40 = .ok (.iadd, 1) := dk_96 (dk_at dksX5_part_1 16 rfl rfl)
theorem dX5_part_41 : decode cX5_part 41 = .ok (.invokevirtual 158, 3) := dk_182 0 158 (dk_at dksX5_part_1 17 rfl rfl)
theorem dX5_part_44 : decode cX5_part 44 = .ok (.astore_n 2, 1) := dk_77 (dk_at dksX5_part_1 20 rfl rfl)
theorem dX5_part_45 : decode cX5_part 45 = .ok (.aload_n 0, 1) := dk_42 (dk_at dksX5_part_1 21 rfl rfl)
theorem dX5_part_46 : decode cX5_part 46 = .ok (.aload_n 0, 1) := dk_42 (dk_at dksX5_part_1 22 rfl rfl)
theorem dX5_part_47 : decode cX5_part 47 = .ok (.bipush 41, 2) := dk_16 41 (dk_at dksX5_part_2 0 rfl rfl)
theorem dX5_part_49 : decode cX5_part 49 = .ok (.invokevirtual 154, 3) := dk_182 0 154 (dk_at dksX5_part_2 2 rfl rfl)
theorem dX5_part_52 : decode cX5_part 52 = .ok (.iconst 1, 1) := dk_4 (dk_at dksX5_part_2 5 rfl rfl)
theorem dX5_part_53 : decode cX5_part 53 = .ok (.invokevirtual 140, 3) := dk_182 0 140 (dk_at dksX5_part_2 6 rfl rfl)
theorem dX5_part_56 : decode cX5_part 56 = .ok (.aload_n 0, 1) := dk_42 (dk_at dksX5_part_2 9 rfl rfl)
theorem dX5_part_57 : decode cX5_part 57 = .ok (.invokevirtual 132, 3) := dk_182 0 132 (dk_at dksX5_part_2 10 rfl rfl)
theorem dX5_part_60 : decode cX5_part 60 = .ok (.aload_n 2, 1) := dk_44 (dk_at dksX5_part_2 13 rfl rfl)
theorem dX5_part_61 : decode cX5_part 61 = .ok (.areturn, 1) := dk_176 (dk_at dksX5_part_2 14 rfl rfl)
theorem dX5_part_62 : decode cX5_part 62 = .ok (.aload_n 0, 1) := dk_42 (dk_at dksX5_part_2 15 rfl rfl)
theorem dX5_part_63 : decode cX5_part 63 = .ok (.aload_n 0, 1) := dk_42 (dk_at dksX5_part_2 16 rfl rfl)
theorem dX5_part_64 : decode cX5_part 64 = .ok (.getfield 92, 3) := dk_180 0 92 (dk_at dksX5_part_2 17 rfl rfl)
theorem dX5_part_67 : decode cX5_part 67 = .ok (.iconst 1, 1) := dk_4 (dk_at dksX5_part_2 20 rfl rfl)
theorem dX5_part_68 : decode cX5_part 68 = .ok (.if_icmp .ne 7, 3) := dk_160 0 7 (dk_at dksX5_part_2 21 rfl rfl)
theorem dX5_part_71 : decode cX5_part 71 = .ok (.iconst 1, 1) := dk_4 (dk_at dksX5_part_3 0 rfl rfl)
theorem dX5_part_72 : decode cX5_part 72 = .ok (.goto 4, 3) := dk_167 0 4 (dk_at dksX5_part_3 1 rfl rfl)
theorem dX5_part_75 : decode cX5_part 75 = .ok (.iconst 0, 1) := dk_3 (dk_at dksX5_part_3 4 rfl rfl)
theorem dX5_part_76 : decode cX5_part 76 = .ok (.iconst 1, 1) := dk_4 (dk_at dksX5_part_3 5 rfl rfl)
theorem dX5_part_77 : decode cX5_part 77 = .ok (.invokevirtual 140, 3) := dk_182 0 140 (dk_at dksX5_part_3 6 rfl rfl)
theorem dX5_part_80 : decode cX5_part 80 = .ok (.aload_n 0, 1) := dk_42 (dk_at dksX5_part_3 9 rfl rfl)
theorem dX5_part_81 : decode cX5_part 81 = .ok (.aload_n 0, 1) := dk_42 (dk_at dksX5_part_3 10 rfl rfl)
theorem dX5_part_82 : decode cX5_part 82 = .ok (.getfield 67, 3) := dk_180 0 67 (dk_at dksX5_part_3 11 rfl rfl)
theorem dX5_part_85 : decode cX5_part 85 = .ok (.invokevirtual 162, 3) := dk_182 0 162 (dk_at dksX5_part_3 14 rfl rfl)
theorem dX5_part_88 : decode cX5_part 88 = .ok (.istore_n 2, 1) := dk_61 (dk_at dksX5_part_3 17 rfl rfl)
theorem dX5_part_89 : decode cX5_part 89 = .ok (.aload_n 0, 1) := dk_42 (dk_at dksX5_part_3 18 rfl rfl)
theorem dX5_part_90 : decode cX5_part 90 = .ok (.iload_n 2, 1) := dk_28 (dk_at dksX5_part_3 19 rfl rfl)
theorem dX5_part_91 : decode cX5_part 91 = .ok (.iconst (-1), 1) := dk_2 (dk_at dksX5_part_3 20 rfl rfl)
theorem dX5_part_92 : decode cX5_part 92 = .ok (.if_icmp .eq 7, 3) := dk_159 0 7 (dk_at dksX5_part_3 21 rfl rfl)
theorem dX5_part_95 : decode cX5_part 95 = .ok (.iconst 1, 1) := dk_4 (dk_at dksX5_part_4 0 rfl rfl)
theorem dX5_part_96 : decode cX5_part 96 = .ok (.goto 4, 3) := dk_167 0 4 (dk_at dksX5_part_4 1 rfl rfl)
theorem dX5_part_99 : decode cX5_part 99 = .ok (.iconst 0, 1) := dk_3 (dk_at dksX5_part_4 4 rfl rfl)
theorem dX5_part_100 : decode cX5_part 100 = .ok (.iconst 3, 1) := dk_6 (dk_at dksX5_part_4 5 rfl rfl)
theorem dX5_part_101 : decode cX5_part 101 = .ok (.invokevirtual 140, 3) := dk_182 0 140 (dk_at dksX5_part_4 6 rfl rfl)
theorem dX5_part_104 : decode cX5_part 104 = .ok (.aload_n 0, 1) := dk_42 (dk_at dksX5_part_4 9 rfl rfl)
theorem dX5_part_105 : decode cX5_part 105 = .ok (.invokevirtual 132, 3) := dk_182 0 132 (dk_at dksX5_part_4 10 rfl rfl)
theorem dX5_part_108 : decode cX5_part 108 = .ok (.new 166, 3) := dk_187 0 166 (dk_at dksX5_part_4 13 rfl rfl)
theorem dX5_part_111 : decode cX5_part 111 = .ok (.dup, 1) := dk_89 (dk_at dksX5_part_4 16 rfl rfl)
theorem dX5_part_112 : decode cX5_part 112 = .ok (.iload_n 2, 1) := dk_28 (dk_at dksX5_part_4 17 rfl rfl)
theorem dX5_part_113 : decode cX5_part 113 = .ok (.invokespecial 168, 3) := dk_183 0 168 (dk_at dksX5_part_4 18 rfl rfl)
theorem dX5_part_116 : decode cX5_part 116 = .ok (.areturn, 1) := dk_176 (dk_at dksX5_part_4 21 rfl rfl)
abbrev cX5_sign : ByteArray := prog_7_method_15_code
def yX5_sign : MethodName := ⟨RX5, "sign", "()C"⟩
def dkwX5_sign_0 : List UInt8 := [42, 180, 0, 3, 180, 0, 77, 42, 180, 0, 89, 51, 146, 60, 42, 182, 0, 132, 27, 172]
abbrev dktX5_sign_0 : List UInt8 := dkwX5_sign_0 ++ []
theorem dksX5_sign_0 : cX5_sign.data.toList.drop 0 = dktX5_sign_0 := by decide +kernel
theorem dX5_sign_0 : decode cX5_sign 0 = .ok (.aload_n 0, 1) := dk_42 (dk_at dksX5_sign_0 0 rfl rfl)
theorem dX5_sign_1 : decode cX5_sign 1 = .ok (.getfield 3, 3) := dk_180 0 3 (dk_at dksX5_sign_0 1 rfl rfl)
theorem dX5_sign_4 : decode cX5_sign 4 = .ok (.getfield 77, 3) := dk_180 0 77 (dk_at dksX5_sign_0 4 rfl rfl)
theorem dX5_sign_7 : decode cX5_sign 7 = .ok (.aload_n 0, 1) := dk_42 (dk_at dksX5_sign_0 7 rfl rfl)
theorem dX5_sign_8 : decode cX5_sign 8 = .ok (.getfield 89, 3) := dk_180 0 89 (dk_at dksX5_sign_0 8 rfl rfl)
theorem dX5_sign_11 : decode cX5_sign 11 = .ok (.baload, 1) := dk_51 (dk_at dksX5_sign_0 11 rfl rfl)
theorem dX5_sign_12 : decode cX5_sign 12 = .ok (.i2c, 1) := dk_146 (dk_at dksX5_sign_0 12 rfl rfl)
theorem dX5_sign_13 : decode cX5_sign 13 = .ok (.istore_n 1, 1) := dk_60 (dk_at dksX5_sign_0 13 rfl rfl)
theorem dX5_sign_14 : decode cX5_sign 14 = .ok (.aload_n 0, 1) := dk_42 (dk_at dksX5_sign_0 14 rfl rfl)
theorem dX5_sign_15 : decode cX5_sign 15 = .ok (.invokevirtual 132, 3) := dk_182 0 132 (dk_at dksX5_sign_0 15 rfl rfl)
theorem dX5_sign_18 : decode cX5_sign 18 = .ok (.iload_n 1, 1) := dk_27 (dk_at dksX5_sign_0 18 rfl rfl)
theorem dX5_sign_19 : decode cX5_sign 19 = .ok (.ireturn, 1) := dk_172 (dk_at dksX5_sign_0 19 rfl rfl)
abbrev cX5_passes : ByteArray := prog_7_method_9_code
def yX5_passes : MethodName := ⟨RX5, "passes", "(Ljava/lang/String;)Z"⟩
def dkwX5_passes_0 : List UInt8 := [42, 43, 182, 0, 128, 61, 28, 153, 0, 7, 42, 182, 0, 132, 28, 172]
abbrev dktX5_passes_0 : List UInt8 := dkwX5_passes_0 ++ []
theorem dksX5_passes_0 : cX5_passes.data.toList.drop 0 = dktX5_passes_0 := by decide +kernel
theorem dX5_passes_0 : decode cX5_passes 0 = .ok (.aload_n 0, 1) := dk_42 (dk_at dksX5_passes_0 0 rfl rfl)
theorem dX5_passes_1 : decode cX5_passes 1 = .ok (.aload_n 1, 1) := dk_43 (dk_at dksX5_passes_0 1 rfl rfl)
theorem dX5_passes_2 : decode cX5_passes 2 = .ok (.invokevirtual 128, 3) := dk_182 0 128 (dk_at dksX5_passes_0 2 rfl rfl)
theorem dX5_passes_5 : decode cX5_passes 5 = .ok (.istore_n 2, 1) := dk_61 (dk_at dksX5_passes_0 5 rfl rfl)
theorem dX5_passes_6 : decode cX5_passes 6 = .ok (.iload_n 2, 1) := dk_28 (dk_at dksX5_passes_0 6 rfl rfl)
theorem dX5_passes_7 : decode cX5_passes 7 = .ok (.ifCond .eq 7, 3) := dk_153 0 7 (dk_at dksX5_passes_0 7 rfl rfl)
theorem dX5_passes_10 : decode cX5_passes 10 = .ok (.aload_n 0, 1) := dk_42 (dk_at dksX5_passes_0 10 rfl rfl)
theorem dX5_passes_11 : decode cX5_passes 11 = .ok (.invokevirtual 132, 3) := dk_182 0 132 (dk_at dksX5_passes_0 11 rfl rfl)
theorem dX5_passes_14 : decode cX5_passes 14 = .ok (.iload_n 2, 1) := dk_28 (dk_at dksX5_passes_0 14 rfl rfl)
theorem dX5_passes_15 : decode cX5_passes 15 = .ok (.ireturn, 1) := dk_172 (dk_at dksX5_passes_0 15 rfl rfl)
abbrev cX5_sheet : ByteArray := prog_7_method_21_code
def yX5_sheet : MethodName := ⟨RX5, "sheet", "()V"⟩
def dkwX5_sheet_3 : List UInt8 := [42, 3, 6, 182, 0, 151, 79, 42, 180, 0, 18, 89, 180, 0, 147, 4, 96, 181, 0, 147, 177]
abbrev dktX5_sheet_3 : List UInt8 := dkwX5_sheet_3 ++ []
def dkwX5_sheet_2 : List UInt8 := [180, 0, 27, 180, 0, 214, 27, 42, 3, 17, 0, 255, 182, 0, 151, 79, 42, 180, 0, 27, 180, 0, 217, 27]
abbrev dktX5_sheet_2 : List UInt8 := dkwX5_sheet_2 ++ dktX5_sheet_3
def dkwX5_sheet_1 : List UInt8 := [42, 182, 0, 132, 42, 180, 0, 27, 180, 0, 211, 27, 42, 3, 17, 0, 255, 182, 0, 151, 79, 42]
abbrev dktX5_sheet_1 : List UInt8 := dkwX5_sheet_1 ++ dktX5_sheet_2
def dkwX5_sheet_0 : List UInt8 := [42, 180, 0, 18, 180, 0, 147, 60, 42, 27, 16, 9, 162, 0, 7, 4, 167, 0, 4, 3, 5, 182, 0, 140]
abbrev dktX5_sheet_0 : List UInt8 := dkwX5_sheet_0 ++ dktX5_sheet_1
theorem dksX5_sheet_0 : cX5_sheet.data.toList.drop 0 = dktX5_sheet_0 := by decide +kernel
theorem dksX5_sheet_1 : cX5_sheet.data.toList.drop 24 = dktX5_sheet_1 := dk_seg dksX5_sheet_0 24 rfl rfl
theorem dksX5_sheet_2 : cX5_sheet.data.toList.drop 46 = dktX5_sheet_2 := dk_seg dksX5_sheet_1 22 rfl rfl
theorem dksX5_sheet_3 : cX5_sheet.data.toList.drop 70 = dktX5_sheet_3 := dk_seg dksX5_sheet_2 24 rfl rfl
theorem dX5_sheet_0 : decode cX5_sheet 0 = .ok (.aload_n 0, 1) := dk_42 (dk_at dksX5_sheet_0 0 rfl rfl)
theorem dX5_sheet_1 : decode cX5_sheet 1 = .ok (.getfield 18, 3) := dk_180 0 18 (dk_at dksX5_sheet_0 1 rfl rfl)
theorem dX5_sheet_4 : decode cX5_sheet 4 = .ok (.getfield 147, 3) := dk_180 0 147 (dk_at dksX5_sheet_0 4 rfl rfl)
theorem dX5_sheet_7 : decode cX5_sheet 7 = .ok (.istore_n 1, 1) := dk_60 (dk_at dksX5_sheet_0 7 rfl rfl)
theorem dX5_sheet_8 : decode cX5_sheet 8 = .ok (.aload_n 0, 1) := dk_42 (dk_at dksX5_sheet_0 8 rfl rfl)
theorem dX5_sheet_9 : decode cX5_sheet 9 = .ok (.iload_n 1, 1) := dk_27 (dk_at dksX5_sheet_0 9 rfl rfl)
theorem dX5_sheet_10 : decode cX5_sheet 10 = .ok (.bipush 9, 2) := dk_16 9 (dk_at dksX5_sheet_0 10 rfl rfl)
theorem dX5_sheet_12 : decode cX5_sheet 12 = .ok (.if_icmp .ge 7, 3) := dk_162 0 7 (dk_at dksX5_sheet_0 12 rfl rfl)
theorem dX5_sheet_15 : decode cX5_sheet 15 = .ok (.iconst 1, 1) := dk_4 (dk_at dksX5_sheet_0 15 rfl rfl)
theorem dX5_sheet_16 : decode cX5_sheet 16 = .ok (.goto 4, 3) := dk_167 0 4 (dk_at dksX5_sheet_0 16 rfl rfl)
theorem dX5_sheet_19 : decode cX5_sheet 19 = .ok (.iconst 0, 1) := dk_3 (dk_at dksX5_sheet_0 19 rfl rfl)
theorem dX5_sheet_20 : decode cX5_sheet 20 = .ok (.iconst 2, 1) := dk_5 (dk_at dksX5_sheet_0 20 rfl rfl)
theorem dX5_sheet_21 : decode cX5_sheet 21 = .ok (.invokevirtual 140, 3) := dk_182 0 140 (dk_at dksX5_sheet_0 21 rfl rfl)
theorem dX5_sheet_24 : decode cX5_sheet 24 = .ok (.aload_n 0, 1) := dk_42 (dk_at dksX5_sheet_1 0 rfl rfl)
theorem dX5_sheet_25 : decode cX5_sheet 25 = .ok (.invokevirtual 132, 3) := dk_182 0 132 (dk_at dksX5_sheet_1 1 rfl rfl)
theorem dX5_sheet_28 : decode cX5_sheet 28 = .ok (.aload_n 0, 1) := dk_42 (dk_at dksX5_sheet_1 4 rfl rfl)
theorem dX5_sheet_29 : decode cX5_sheet 29 = .ok (.getfield 27, 3) := dk_180 0 27 (dk_at dksX5_sheet_1 5 rfl rfl)
theorem dX5_sheet_32 : decode cX5_sheet 32 = .ok (.getfield 211, 3) := dk_180 0 211 (dk_at dksX5_sheet_1 8 rfl rfl)
theorem dX5_sheet_35 : decode cX5_sheet 35 = .ok (.iload_n 1, 1) := dk_27 (dk_at dksX5_sheet_1 11 rfl rfl)
theorem dX5_sheet_36 : decode cX5_sheet 36 = .ok (.aload_n 0, 1) := dk_42 (dk_at dksX5_sheet_1 12 rfl rfl)
theorem dX5_sheet_37 : decode cX5_sheet 37 = .ok (.iconst 0, 1) := dk_3 (dk_at dksX5_sheet_1 13 rfl rfl)
theorem dX5_sheet_38 : decode cX5_sheet 38 = .ok (.sipush 255, 3) := dk_17 0 255 (dk_at dksX5_sheet_1 14 rfl rfl)
theorem dX5_sheet_41 : decode cX5_sheet 41 = .ok (.invokevirtual 151, 3) := dk_182 0 151 (dk_at dksX5_sheet_1 17 rfl rfl)
theorem dX5_sheet_44 : decode cX5_sheet 44 = .ok (.iastore, 1) := dk_79 (dk_at dksX5_sheet_1 20 rfl rfl)
theorem dX5_sheet_45 : decode cX5_sheet 45 = .ok (.aload_n 0, 1) := dk_42 (dk_at dksX5_sheet_1 21 rfl rfl)
theorem dX5_sheet_46 : decode cX5_sheet 46 = .ok (.getfield 27, 3) := dk_180 0 27 (dk_at dksX5_sheet_2 0 rfl rfl)
theorem dX5_sheet_49 : decode cX5_sheet 49 = .ok (.getfield 214, 3) := dk_180 0 214 (dk_at dksX5_sheet_2 3 rfl rfl)
theorem dX5_sheet_52 : decode cX5_sheet 52 = .ok (.iload_n 1, 1) := dk_27 (dk_at dksX5_sheet_2 6 rfl rfl)
theorem dX5_sheet_53 : decode cX5_sheet 53 = .ok (.aload_n 0, 1) := dk_42 (dk_at dksX5_sheet_2 7 rfl rfl)
theorem dX5_sheet_54 : decode cX5_sheet 54 = .ok (.iconst 0, 1) := dk_3 (dk_at dksX5_sheet_2 8 rfl rfl)
theorem dX5_sheet_55 : decode cX5_sheet 55 = .ok (.sipush 255, 3) := dk_17 0 255 (dk_at dksX5_sheet_2 9 rfl rfl)
theorem dX5_sheet_58 : decode cX5_sheet 58 = .ok (.invokevirtual 151, 3) := dk_182 0 151 (dk_at dksX5_sheet_2 12 rfl rfl)
theorem dX5_sheet_61 : decode cX5_sheet 61 = .ok (.iastore, 1) := dk_79 (dk_at dksX5_sheet_2 15 rfl rfl)
theorem dX5_sheet_62 : decode cX5_sheet 62 = .ok (.aload_n 0, 1) := dk_42 (dk_at dksX5_sheet_2 16 rfl rfl)
theorem dX5_sheet_63 : decode cX5_sheet 63 = .ok (.getfield 27, 3) := dk_180 0 27 (dk_at dksX5_sheet_2 17 rfl rfl)
theorem dX5_sheet_66 : decode cX5_sheet 66 = .ok (.getfield 217, 3) := dk_180 0 217 (dk_at dksX5_sheet_2 20 rfl rfl)
theorem dX5_sheet_69 : decode cX5_sheet 69 = .ok (.iload_n 1, 1) := dk_27 (dk_at dksX5_sheet_2 23 rfl rfl)
theorem dX5_sheet_70 : decode cX5_sheet 70 = .ok (.aload_n 0, 1) := dk_42 (dk_at dksX5_sheet_3 0 rfl rfl)
theorem dX5_sheet_71 : decode cX5_sheet 71 = .ok (.iconst 0, 1) := dk_3 (dk_at dksX5_sheet_3 1 rfl rfl)
theorem dX5_sheet_72 : decode cX5_sheet 72 = .ok (.iconst 3, 1) := dk_6 (dk_at dksX5_sheet_3 2 rfl rfl)
theorem dX5_sheet_73 : decode cX5_sheet 73 = .ok (.invokevirtual 151, 3) := dk_182 0 151 (dk_at dksX5_sheet_3 3 rfl rfl)
theorem dX5_sheet_76 : decode cX5_sheet 76 = .ok (.iastore, 1) := dk_79 (dk_at dksX5_sheet_3 6 rfl rfl)
theorem dX5_sheet_77 : decode cX5_sheet 77 = .ok (.aload_n 0, 1) := dk_42 (dk_at dksX5_sheet_3 7 rfl rfl)
theorem dX5_sheet_78 : decode cX5_sheet 78 = .ok (.getfield 18, 3) := dk_180 0 18 (dk_at dksX5_sheet_3 8 rfl rfl)
theorem dX5_sheet_81 : decode cX5_sheet 81 = .ok (.dup, 1) := dk_89 (dk_at dksX5_sheet_3 11 rfl rfl)
theorem dX5_sheet_82 : decode cX5_sheet 82 = .ok (.getfield 147, 3) := dk_180 0 147 (dk_at dksX5_sheet_3 12 rfl rfl)
theorem dX5_sheet_85 : decode cX5_sheet 85 = .ok (.iconst 1, 1) := dk_4 (dk_at dksX5_sheet_3 15 rfl rfl)
theorem dX5_sheet_86 : decode cX5_sheet 86 = .ok (.iadd, 1) := dk_96 (dk_at dksX5_sheet_3 16 rfl rfl)
theorem dX5_sheet_87 : decode cX5_sheet 87 = .ok (.putfield 147, 3) := dk_181 0 147 (dk_at dksX5_sheet_3 17 rfl rfl)
theorem dX5_sheet_90 : decode cX5_sheet 90 = .ok (.return_, 1) := dk_177 (dk_at dksX5_sheet_3 20 rfl rfl)
abbrev cX5_clerk : ByteArray := prog_7_method_22_code
def yX5_clerk : MethodName := ⟨RX5, "clerk", "()V"⟩
def dkwX5_clerk_4 : List UInt8 := [185, 0, 234, 2, 0, 87, 167, 255, 211, 42, 180, 0, 18, 180, 0, 237, 43, 185, 0, 234, 2, 0, 87, 177]
abbrev dktX5_clerk_4 : List UInt8 := dkwX5_clerk_4 ++ []
def dkwX5_clerk_3 : List UInt8 := [162, 0, 7, 4, 167, 0, 4, 3, 5, 182, 0, 140, 43, 42, 3, 6, 182, 0, 151, 184, 0, 228]
abbrev dktX5_clerk_3 : List UInt8 := dkwX5_clerk_3 ++ dktX5_clerk_4
def dkwX5_clerk_2 : List UInt8 := [3, 4, 182, 0, 140, 42, 180, 0, 92, 5, 160, 0, 43, 42, 43, 185, 0, 224, 1, 0, 16, 6]
abbrev dktX5_clerk_2 : List UInt8 := dkwX5_clerk_2 ++ dktX5_clerk_3
def dkwX5_clerk_1 : List UInt8 := [182, 0, 132, 187, 0, 221, 89, 183, 0, 223, 76, 42, 42, 180, 0, 92, 5, 160, 0, 7, 4, 167, 0, 4]
abbrev dktX5_clerk_1 : List UInt8 := dkwX5_clerk_1 ++ dktX5_clerk_2
def dkwX5_clerk_0 : List UInt8 := [42, 42, 180, 0, 18, 182, 0, 219, 16, 6, 162, 0, 7, 4, 167, 0, 4, 3, 5, 182, 0, 140, 42]
abbrev dktX5_clerk_0 : List UInt8 := dkwX5_clerk_0 ++ dktX5_clerk_1
theorem dksX5_clerk_0 : cX5_clerk.data.toList.drop 0 = dktX5_clerk_0 := by decide +kernel
theorem dksX5_clerk_1 : cX5_clerk.data.toList.drop 23 = dktX5_clerk_1 := dk_seg dksX5_clerk_0 23 rfl rfl
theorem dksX5_clerk_2 : cX5_clerk.data.toList.drop 47 = dktX5_clerk_2 := dk_seg dksX5_clerk_1 24 rfl rfl
theorem dksX5_clerk_3 : cX5_clerk.data.toList.drop 69 = dktX5_clerk_3 := dk_seg dksX5_clerk_2 22 rfl rfl
theorem dksX5_clerk_4 : cX5_clerk.data.toList.drop 91 = dktX5_clerk_4 := dk_seg dksX5_clerk_3 22 rfl rfl
theorem dX5_clerk_0 : decode cX5_clerk 0 = .ok (.aload_n 0, 1) := dk_42 (dk_at dksX5_clerk_0 0 rfl rfl)
theorem dX5_clerk_1 : decode cX5_clerk 1 = .ok (.aload_n 0, 1) := dk_42 (dk_at dksX5_clerk_0 1 rfl rfl)
theorem dX5_clerk_2 : decode cX5_clerk 2 = .ok (.getfield 18, 3) := dk_180 0 18 (dk_at dksX5_clerk_0 2 rfl rfl)
theorem dX5_clerk_5 : decode cX5_clerk 5 = .ok (.invokevirtual 219, 3) := dk_182 0 219 (dk_at dksX5_clerk_0 5 rfl rfl)
theorem dX5_clerk_8 : decode cX5_clerk 8 = .ok (.bipush 6, 2) := dk_16 6 (dk_at dksX5_clerk_0 8 rfl rfl)
theorem dX5_clerk_10 : decode cX5_clerk 10 = .ok (.if_icmp .ge 7, 3) := dk_162 0 7 (dk_at dksX5_clerk_0 10 rfl rfl)
theorem dX5_clerk_13 : decode cX5_clerk 13 = .ok (.iconst 1, 1) := dk_4 (dk_at dksX5_clerk_0 13 rfl rfl)
theorem dX5_clerk_14 : decode cX5_clerk 14 = .ok (.goto 4, 3) := dk_167 0 4 (dk_at dksX5_clerk_0 14 rfl rfl)
theorem dX5_clerk_17 : decode cX5_clerk 17 = .ok (.iconst 0, 1) := dk_3 (dk_at dksX5_clerk_0 17 rfl rfl)
theorem dX5_clerk_18 : decode cX5_clerk 18 = .ok (.iconst 2, 1) := dk_5 (dk_at dksX5_clerk_0 18 rfl rfl)
theorem dX5_clerk_19 : decode cX5_clerk 19 = .ok (.invokevirtual 140, 3) := dk_182 0 140 (dk_at dksX5_clerk_0 19 rfl rfl)
theorem dX5_clerk_22 : decode cX5_clerk 22 = .ok (.aload_n 0, 1) := dk_42 (dk_at dksX5_clerk_0 22 rfl rfl)
theorem dX5_clerk_23 : decode cX5_clerk 23 = .ok (.invokevirtual 132, 3) := dk_182 0 132 (dk_at dksX5_clerk_1 0 rfl rfl)
theorem dX5_clerk_26 : decode cX5_clerk 26 = .ok (.new 221, 3) := dk_187 0 221 (dk_at dksX5_clerk_1 3 rfl rfl)
theorem dX5_clerk_29 : decode cX5_clerk 29 = .ok (.dup, 1) := dk_89 (dk_at dksX5_clerk_1 6 rfl rfl)
theorem dX5_clerk_30 : decode cX5_clerk 30 = .ok (.invokespecial 223, 3) := dk_183 0 223 (dk_at dksX5_clerk_1 7 rfl rfl)
theorem dX5_clerk_33 : decode cX5_clerk 33 = .ok (.astore_n 1, 1) := dk_76 (dk_at dksX5_clerk_1 10 rfl rfl)
theorem dX5_clerk_34 : decode cX5_clerk 34 = .ok (.aload_n 0, 1) := dk_42 (dk_at dksX5_clerk_1 11 rfl rfl)
theorem dX5_clerk_35 : decode cX5_clerk 35 = .ok (.aload_n 0, 1) := dk_42 (dk_at dksX5_clerk_1 12 rfl rfl)
theorem dX5_clerk_36 : decode cX5_clerk 36 = .ok (.getfield 92, 3) := dk_180 0 92 (dk_at dksX5_clerk_1 13 rfl rfl)
theorem dX5_clerk_39 : decode cX5_clerk 39 = .ok (.iconst 2, 1) := dk_5 (dk_at dksX5_clerk_1 16 rfl rfl)
theorem dX5_clerk_40 : decode cX5_clerk 40 = .ok (.if_icmp .ne 7, 3) := dk_160 0 7 (dk_at dksX5_clerk_1 17 rfl rfl)
theorem dX5_clerk_43 : decode cX5_clerk 43 = .ok (.iconst 1, 1) := dk_4 (dk_at dksX5_clerk_1 20 rfl rfl)
theorem dX5_clerk_44 : decode cX5_clerk 44 = .ok (.goto 4, 3) := dk_167 0 4 (dk_at dksX5_clerk_1 21 rfl rfl)
theorem dX5_clerk_47 : decode cX5_clerk 47 = .ok (.iconst 0, 1) := dk_3 (dk_at dksX5_clerk_2 0 rfl rfl)
theorem dX5_clerk_48 : decode cX5_clerk 48 = .ok (.iconst 1, 1) := dk_4 (dk_at dksX5_clerk_2 1 rfl rfl)
theorem dX5_clerk_49 : decode cX5_clerk 49 = .ok (.invokevirtual 140, 3) := dk_182 0 140 (dk_at dksX5_clerk_2 2 rfl rfl)
theorem dX5_clerk_52 : decode cX5_clerk 52 = .ok (.aload_n 0, 1) := dk_42 (dk_at dksX5_clerk_2 5 rfl rfl)
theorem dX5_clerk_53 : decode cX5_clerk 53 = .ok (.getfield 92, 3) := dk_180 0 92 (dk_at dksX5_clerk_2 6 rfl rfl)
theorem dX5_clerk_56 : decode cX5_clerk 56 = .ok (.iconst 2, 1) := dk_5 (dk_at dksX5_clerk_2 9 rfl rfl)
theorem dX5_clerk_57 : decode cX5_clerk 57 = .ok (.if_icmp .ne 43, 3) := dk_160 0 43 (dk_at dksX5_clerk_2 10 rfl rfl)
theorem dX5_clerk_60 : decode cX5_clerk 60 = .ok (.aload_n 0, 1) := dk_42 (dk_at dksX5_clerk_2 13 rfl rfl)
theorem dX5_clerk_61 : decode cX5_clerk 61 = .ok (.aload_n 1, 1) := dk_43 (dk_at dksX5_clerk_2 14 rfl rfl)
theorem dX5_clerk_62 : decode cX5_clerk 62 = .ok (.invokeinterface 224 1, 5) := by decide +kernel
theorem dX5_clerk_67 : decode cX5_clerk 67 = .ok (.bipush 6, 2) := dk_16 6 (dk_at dksX5_clerk_2 20 rfl rfl)
theorem dX5_clerk_69 : decode cX5_clerk 69 = .ok (.if_icmp .ge 7, 3) := dk_162 0 7 (dk_at dksX5_clerk_3 0 rfl rfl)
theorem dX5_clerk_72 : decode cX5_clerk 72 = .ok (.iconst 1, 1) := dk_4 (dk_at dksX5_clerk_3 3 rfl rfl)
theorem dX5_clerk_73 : decode cX5_clerk 73 = .ok (.goto 4, 3) := dk_167 0 4 (dk_at dksX5_clerk_3 4 rfl rfl)
theorem dX5_clerk_76 : decode cX5_clerk 76 = .ok (.iconst 0, 1) := dk_3 (dk_at dksX5_clerk_3 7 rfl rfl)
theorem dX5_clerk_77 : decode cX5_clerk 77 = .ok (.iconst 2, 1) := dk_5 (dk_at dksX5_clerk_3 8 rfl rfl)
theorem dX5_clerk_78 : decode cX5_clerk 78 = .ok (.invokevirtual 140, 3) := dk_182 0 140 (dk_at dksX5_clerk_3 9 rfl rfl)
theorem dX5_clerk_81 : decode cX5_clerk 81 = .ok (.aload_n 1, 1) := dk_43 (dk_at dksX5_clerk_3 12 rfl rfl)
theorem dX5_clerk_82 : decode cX5_clerk 82 = .ok (.aload_n 0, 1) := dk_42 (dk_at dksX5_clerk_3 13 rfl rfl)
theorem dX5_clerk_83 : decode cX5_clerk 83 = .ok (.iconst 0, 1) := dk_3 (dk_at dksX5_clerk_3 14 rfl rfl)
theorem dX5_clerk_84 : decode cX5_clerk 84 = .ok (.iconst 3, 1) := dk_6 (dk_at dksX5_clerk_3 15 rfl rfl)
theorem dX5_clerk_85 : decode cX5_clerk 85 = .ok (.invokevirtual 151, 3) := dk_182 0 151 (dk_at dksX5_clerk_3 16 rfl rfl)
theorem dX5_clerk_88 : decode cX5_clerk 88 = .ok (.invokestatic 228, 3) := dk_184 0 228 (dk_at dksX5_clerk_3 19 rfl rfl)
theorem dX5_clerk_91 : decode cX5_clerk 91 = .ok (.invokeinterface 234 2, 5) := by decide +kernel
theorem dX5_clerk_96 : decode cX5_clerk 96 = .ok (.pop, 1) := dk_87 (dk_at dksX5_clerk_4 5 rfl rfl)
theorem dX5_clerk_97 : decode cX5_clerk 97 = .ok (.goto (-45), 3) := dk_167 255 211 (dk_at dksX5_clerk_4 6 rfl rfl)
theorem dX5_clerk_100 : decode cX5_clerk 100 = .ok (.aload_n 0, 1) := dk_42 (dk_at dksX5_clerk_4 9 rfl rfl)
theorem dX5_clerk_101 : decode cX5_clerk 101 = .ok (.getfield 18, 3) := dk_180 0 18 (dk_at dksX5_clerk_4 10 rfl rfl)
theorem dX5_clerk_104 : decode cX5_clerk 104 = .ok (.getfield 237, 3) := dk_180 0 237 (dk_at dksX5_clerk_4 13 rfl rfl)
theorem dX5_clerk_107 : decode cX5_clerk 107 = .ok (.aload_n 1, 1) := dk_43 (dk_at dksX5_clerk_4 16 rfl rfl)
theorem dX5_clerk_108 : decode cX5_clerk 108 = .ok (.invokeinterface 234 2, 5) := by decide +kernel
theorem dX5_clerk_113 : decode cX5_clerk 113 = .ok (.pop, 1) := dk_87 (dk_at dksX5_clerk_4 22 rfl rfl)
theorem dX5_clerk_114 : decode cX5_clerk 114 = .ok (.return_, 1) := dk_177 (dk_at dksX5_clerk_4 23 rfl rfl)
abbrev cX5_word : ByteArray := prog_7_method_24_code
def yX5_word : MethodName := ⟨RX5, "word", "()V"⟩
def dkwX5_word_4 : List UInt8 := [185, 0, 234, 2, 0, 87, 177]
abbrev dktX5_word_4 : List UInt8 := dkwX5_word_4 ++ []
def dkwX5_word_3 : List UInt8 := [182, 0, 132, 42, 180, 0, 18, 180, 0, 241, 5, 188, 10, 89, 3, 27, 79, 89, 4, 28, 79]
abbrev dktX5_word_3 : List UInt8 := dkwX5_word_3 ++ dktX5_word_4
def dkwX5_word_2 : List UInt8 := [159, 0, 16, 42, 27, 28, 182, 0, 252, 154, 0, 7, 4, 167, 0, 4, 3, 7, 182, 0, 140, 42]
abbrev dktX5_word_2 : List UInt8 := dkwX5_word_2 ++ dktX5_word_3
def dkwX5_word_1 : List UInt8 := [182, 0, 140, 42, 182, 0, 132, 42, 182, 0, 249, 60, 42, 182, 0, 132, 42, 182, 0, 249, 61, 42, 27, 28]
abbrev dktX5_word_1 : List UInt8 := dkwX5_word_1 ++ dktX5_word_2
def dkwX5_word_0 : List UInt8 := [42, 42, 180, 0, 18, 180, 0, 241, 185, 0, 224, 1, 0, 16, 12, 162, 0, 7, 4, 167, 0, 4, 3, 5]
abbrev dktX5_word_0 : List UInt8 := dkwX5_word_0 ++ dktX5_word_1
theorem dksX5_word_0 : cX5_word.data.toList.drop 0 = dktX5_word_0 := by decide +kernel
theorem dksX5_word_1 : cX5_word.data.toList.drop 24 = dktX5_word_1 := dk_seg dksX5_word_0 24 rfl rfl
theorem dksX5_word_2 : cX5_word.data.toList.drop 48 = dktX5_word_2 := dk_seg dksX5_word_1 24 rfl rfl
theorem dksX5_word_3 : cX5_word.data.toList.drop 70 = dktX5_word_3 := dk_seg dksX5_word_2 22 rfl rfl
theorem dksX5_word_4 : cX5_word.data.toList.drop 91 = dktX5_word_4 := dk_seg dksX5_word_3 21 rfl rfl
theorem dX5_word_0 : decode cX5_word 0 = .ok (.aload_n 0, 1) := dk_42 (dk_at dksX5_word_0 0 rfl rfl)
theorem dX5_word_1 : decode cX5_word 1 = .ok (.aload_n 0, 1) := dk_42 (dk_at dksX5_word_0 1 rfl rfl)
theorem dX5_word_2 : decode cX5_word 2 = .ok (.getfield 18, 3) := dk_180 0 18 (dk_at dksX5_word_0 2 rfl rfl)
theorem dX5_word_5 : decode cX5_word 5 = .ok (.getfield 241, 3) := dk_180 0 241 (dk_at dksX5_word_0 5 rfl rfl)
theorem dX5_word_8 : decode cX5_word 8 = .ok (.invokeinterface 224 1, 5) := by decide +kernel
theorem dX5_word_13 : decode cX5_word 13 = .ok (.bipush 12, 2) := dk_16 12 (dk_at dksX5_word_0 13 rfl rfl)
theorem dX5_word_15 : decode cX5_word 15 = .ok (.if_icmp .ge 7, 3) := dk_162 0 7 (dk_at dksX5_word_0 15 rfl rfl)
theorem dX5_word_18 : decode cX5_word 18 = .ok (.iconst 1, 1) := dk_4 (dk_at dksX5_word_0 18 rfl rfl)
theorem dX5_word_19 : decode cX5_word 19 = .ok (.goto 4, 3) := dk_167 0 4 (dk_at dksX5_word_0 19 rfl rfl)
theorem dX5_word_22 : decode cX5_word 22 = .ok (.iconst 0, 1) := dk_3 (dk_at dksX5_word_0 22 rfl rfl)
theorem dX5_word_23 : decode cX5_word 23 = .ok (.iconst 2, 1) := dk_5 (dk_at dksX5_word_0 23 rfl rfl)
theorem dX5_word_24 : decode cX5_word 24 = .ok (.invokevirtual 140, 3) := dk_182 0 140 (dk_at dksX5_word_1 0 rfl rfl)
theorem dX5_word_27 : decode cX5_word 27 = .ok (.aload_n 0, 1) := dk_42 (dk_at dksX5_word_1 3 rfl rfl)
theorem dX5_word_28 : decode cX5_word 28 = .ok (.invokevirtual 132, 3) := dk_182 0 132 (dk_at dksX5_word_1 4 rfl rfl)
theorem dX5_word_31 : decode cX5_word 31 = .ok (.aload_n 0, 1) := dk_42 (dk_at dksX5_word_1 7 rfl rfl)
theorem dX5_word_32 : decode cX5_word 32 = .ok (.invokevirtual 249, 3) := dk_182 0 249 (dk_at dksX5_word_1 8 rfl rfl)
theorem dX5_word_35 : decode cX5_word 35 = .ok (.istore_n 1, 1) := dk_60 (dk_at dksX5_word_1 11 rfl rfl)
theorem dX5_word_36 : decode cX5_word 36 = .ok (.aload_n 0, 1) := dk_42 (dk_at dksX5_word_1 12 rfl rfl)
theorem dX5_word_37 : decode cX5_word 37 = .ok (.invokevirtual 132, 3) := dk_182 0 132 (dk_at dksX5_word_1 13 rfl rfl)
theorem dX5_word_40 : decode cX5_word 40 = .ok (.aload_n 0, 1) := dk_42 (dk_at dksX5_word_1 16 rfl rfl)
theorem dX5_word_41 : decode cX5_word 41 = .ok (.invokevirtual 249, 3) := dk_182 0 249 (dk_at dksX5_word_1 17 rfl rfl)
theorem dX5_word_44 : decode cX5_word 44 = .ok (.istore_n 2, 1) := dk_61 (dk_at dksX5_word_1 20 rfl rfl)
theorem dX5_word_45 : decode cX5_word 45 = .ok (.aload_n 0, 1) := dk_42 (dk_at dksX5_word_1 21 rfl rfl)
theorem dX5_word_46 : decode cX5_word 46 = .ok (.iload_n 1, 1) := dk_27 (dk_at dksX5_word_1 22 rfl rfl)
theorem dX5_word_47 : decode cX5_word 47 = .ok (.iload_n 2, 1) := dk_28 (dk_at dksX5_word_1 23 rfl rfl)
theorem dX5_word_48 : decode cX5_word 48 = .ok (.if_icmp .eq 16, 3) := dk_159 0 16 (dk_at dksX5_word_2 0 rfl rfl)
theorem dX5_word_51 : decode cX5_word 51 = .ok (.aload_n 0, 1) := dk_42 (dk_at dksX5_word_2 3 rfl rfl)
theorem dX5_word_52 : decode cX5_word 52 = .ok (.iload_n 1, 1) := dk_27 (dk_at dksX5_word_2 4 rfl rfl)
theorem dX5_word_53 : decode cX5_word 53 = .ok (.iload_n 2, 1) := dk_28 (dk_at dksX5_word_2 5 rfl rfl)
theorem dX5_word_54 : decode cX5_word 54 = .ok (.invokevirtual 252, 3) := dk_182 0 252 (dk_at dksX5_word_2 6 rfl rfl)
theorem dX5_word_57 : decode cX5_word 57 = .ok (.ifCond .ne 7, 3) := dk_154 0 7 (dk_at dksX5_word_2 9 rfl rfl)
theorem dX5_word_60 : decode cX5_word 60 = .ok (.iconst 1, 1) := dk_4 (dk_at dksX5_word_2 12 rfl rfl)
theorem dX5_word_61 : decode cX5_word 61 = .ok (.goto 4, 3) := dk_167 0 4 (dk_at dksX5_word_2 13 rfl rfl)
theorem dX5_word_64 : decode cX5_word 64 = .ok (.iconst 0, 1) := dk_3 (dk_at dksX5_word_2 16 rfl rfl)
theorem dX5_word_65 : decode cX5_word 65 = .ok (.iconst 4, 1) := dk_7 (dk_at dksX5_word_2 17 rfl rfl)
theorem dX5_word_66 : decode cX5_word 66 = .ok (.invokevirtual 140, 3) := dk_182 0 140 (dk_at dksX5_word_2 18 rfl rfl)
theorem dX5_word_69 : decode cX5_word 69 = .ok (.aload_n 0, 1) := dk_42 (dk_at dksX5_word_2 21 rfl rfl)
theorem dX5_word_70 : decode cX5_word 70 = .ok (.invokevirtual 132, 3) := dk_182 0 132 (dk_at dksX5_word_3 0 rfl rfl)
theorem dX5_word_73 : decode cX5_word 73 = .ok (.aload_n 0, 1) := dk_42 (dk_at dksX5_word_3 3 rfl rfl)
theorem dX5_word_74 : decode cX5_word 74 = .ok (.getfield 18, 3) := dk_180 0 18 (dk_at dksX5_word_3 4 rfl rfl)
theorem dX5_word_77 : decode cX5_word 77 = .ok (.getfield 241, 3) := dk_180 0 241 (dk_at dksX5_word_3 7 rfl rfl)
theorem dX5_word_80 : decode cX5_word 80 = .ok (.iconst 2, 1) := dk_5 (dk_at dksX5_word_3 10 rfl rfl)
theorem dX5_word_81 : decode cX5_word 81 = .ok (.newarray .int, 2) := dk_188_10 (dk_at dksX5_word_3 11 rfl rfl)
theorem dX5_word_83 : decode cX5_word 83 = .ok (.dup, 1) := dk_89 (dk_at dksX5_word_3 13 rfl rfl)
theorem dX5_word_84 : decode cX5_word 84 = .ok (.iconst 0, 1) := dk_3 (dk_at dksX5_word_3 14 rfl rfl)
theorem dX5_word_85 : decode cX5_word 85 = .ok (.iload_n 1, 1) := dk_27 (dk_at dksX5_word_3 15 rfl rfl)
theorem dX5_word_86 : decode cX5_word 86 = .ok (.iastore, 1) := dk_79 (dk_at dksX5_word_3 16 rfl rfl)
theorem dX5_word_87 : decode cX5_word 87 = .ok (.dup, 1) := dk_89 (dk_at dksX5_word_3 17 rfl rfl)
theorem dX5_word_88 : decode cX5_word 88 = .ok (.iconst 1, 1) := dk_4 (dk_at dksX5_word_3 18 rfl rfl)
theorem dX5_word_89 : decode cX5_word 89 = .ok (.iload_n 2, 1) := dk_28 (dk_at dksX5_word_3 19 rfl rfl)
theorem dX5_word_90 : decode cX5_word 90 = .ok (.iastore, 1) := dk_79 (dk_at dksX5_word_3 20 rfl rfl)
theorem dX5_word_91 : decode cX5_word 91 = .ok (.invokeinterface 234 2, 5) := by decide +kernel
theorem dX5_word_96 : decode cX5_word 96 = .ok (.pop, 1) := dk_87 (dk_at dksX5_word_4 5 rfl rfl)
theorem dX5_word_97 : decode cX5_word 97 = .ok (.return_, 1) := dk_177 (dk_at dksX5_word_4 6 rfl rfl)
abbrev cX5_sheetNow : ByteArray := prog_7_method_13_code
def yX5_sheetNow : MethodName := ⟨RX5, "sheetNow", "()I"⟩
def dkwX5_sheetNow_1 : List UInt8 := [167, 0, 4, 3, 6, 182, 0, 140, 27, 172]
abbrev dktX5_sheetNow_1 : List UInt8 := dkwX5_sheetNow_1 ++ []
def dkwX5_sheetNow_0 : List UInt8 := [42, 3, 17, 39, 15, 182, 0, 144, 60, 42, 27, 42, 180, 0, 18, 180, 0, 147, 162, 0, 7, 4]
abbrev dktX5_sheetNow_0 : List UInt8 := dkwX5_sheetNow_0 ++ dktX5_sheetNow_1
theorem dksX5_sheetNow_0 : cX5_sheetNow.data.toList.drop 0 = dktX5_sheetNow_0 := by decide +kernel
theorem dksX5_sheetNow_1 : cX5_sheetNow.data.toList.drop 22 = dktX5_sheetNow_1 := dk_seg dksX5_sheetNow_0 22 rfl rfl
theorem dX5_sheetNow_0 : decode cX5_sheetNow 0 = .ok (.aload_n 0, 1) := dk_42 (dk_at dksX5_sheetNow_0 0 rfl rfl)
theorem dX5_sheetNow_1 : decode cX5_sheetNow 1 = .ok (.iconst 0, 1) := dk_3 (dk_at dksX5_sheetNow_0 1 rfl rfl)
theorem dX5_sheetNow_2 : decode cX5_sheetNow 2 = .ok (.sipush 9999, 3) := dk_17 39 15 (dk_at dksX5_sheetNow_0 2 rfl rfl)
theorem dX5_sheetNow_5 : decode cX5_sheetNow 5 = .ok (.invokevirtual 144, 3) := dk_182 0 144 (dk_at dksX5_sheetNow_0 5 rfl rfl)
theorem dX5_sheetNow_8 : decode cX5_sheetNow 8 = .ok (.istore_n 1, 1) := dk_60 (dk_at dksX5_sheetNow_0 8 rfl rfl)
theorem dX5_sheetNow_9 : decode cX5_sheetNow 9 = .ok (.aload_n 0, 1) := dk_42 (dk_at dksX5_sheetNow_0 9 rfl rfl)
theorem dX5_sheetNow_10 : decode cX5_sheetNow 10 = .ok (.iload_n 1, 1) := dk_27 (dk_at dksX5_sheetNow_0 10 rfl rfl)
theorem dX5_sheetNow_11 : decode cX5_sheetNow 11 = .ok (.aload_n 0, 1) := dk_42 (dk_at dksX5_sheetNow_0 11 rfl rfl)
theorem dX5_sheetNow_12 : decode cX5_sheetNow 12 = .ok (.getfield 18, 3) := dk_180 0 18 (dk_at dksX5_sheetNow_0 12 rfl rfl)
theorem dX5_sheetNow_15 : decode cX5_sheetNow 15 = .ok (.getfield 147, 3) := dk_180 0 147 (dk_at dksX5_sheetNow_0 15 rfl rfl)
theorem dX5_sheetNow_18 : decode cX5_sheetNow 18 = .ok (.if_icmp .ge 7, 3) := dk_162 0 7 (dk_at dksX5_sheetNow_0 18 rfl rfl)
theorem dX5_sheetNow_21 : decode cX5_sheetNow 21 = .ok (.iconst 1, 1) := dk_4 (dk_at dksX5_sheetNow_0 21 rfl rfl)
theorem dX5_sheetNow_22 : decode cX5_sheetNow 22 = .ok (.goto 4, 3) := dk_167 0 4 (dk_at dksX5_sheetNow_1 0 rfl rfl)
theorem dX5_sheetNow_25 : decode cX5_sheetNow 25 = .ok (.iconst 0, 1) := dk_3 (dk_at dksX5_sheetNow_1 3 rfl rfl)
theorem dX5_sheetNow_26 : decode cX5_sheetNow 26 = .ok (.iconst 3, 1) := dk_6 (dk_at dksX5_sheetNow_1 4 rfl rfl)
theorem dX5_sheetNow_27 : decode cX5_sheetNow 27 = .ok (.invokevirtual 140, 3) := dk_182 0 140 (dk_at dksX5_sheetNow_1 5 rfl rfl)
theorem dX5_sheetNow_30 : decode cX5_sheetNow 30 = .ok (.iload_n 1, 1) := dk_27 (dk_at dksX5_sheetNow_1 8 rfl rfl)
theorem dX5_sheetNow_31 : decode cX5_sheetNow 31 = .ok (.ireturn, 1) := dk_172 (dk_at dksX5_sheetNow_1 9 rfl rfl)
abbrev cX5_hasWord : ByteArray := prog_7_method_23_code
def yX5_hasWord : MethodName := ⟨RX5, "hasWord", "(II)Z"⟩
def dkwX5_hasWord_3 : List UInt8 := [167, 255, 191, 3, 172]
abbrev dktX5_hasWord_3 : List UInt8 := dkwX5_hasWord_3 ++ []
def dkwX5_hasWord_2 : List UInt8 := [180, 0, 241, 29, 185, 0, 244, 2, 0, 192, 0, 248, 4, 46, 28, 160, 0, 5, 4, 172, 132, 3, 1]
abbrev dktX5_hasWord_2 : List UInt8 := dkwX5_hasWord_2 ++ dktX5_hasWord_3
def dkwX5_hasWord_1 : List UInt8 := [180, 0, 241, 29, 185, 0, 244, 2, 0, 192, 0, 248, 3, 46, 27, 160, 0, 27, 42, 180, 0, 18]
abbrev dktX5_hasWord_1 : List UInt8 := dkwX5_hasWord_1 ++ dktX5_hasWord_2
def dkwX5_hasWord_0 : List UInt8 := [3, 62, 29, 42, 180, 0, 18, 180, 0, 241, 185, 0, 224, 1, 0, 162, 0, 55, 42, 180, 0, 18]
abbrev dktX5_hasWord_0 : List UInt8 := dkwX5_hasWord_0 ++ dktX5_hasWord_1
theorem dksX5_hasWord_0 : cX5_hasWord.data.toList.drop 0 = dktX5_hasWord_0 := by decide +kernel
theorem dksX5_hasWord_1 : cX5_hasWord.data.toList.drop 22 = dktX5_hasWord_1 := dk_seg dksX5_hasWord_0 22 rfl rfl
theorem dksX5_hasWord_2 : cX5_hasWord.data.toList.drop 44 = dktX5_hasWord_2 := dk_seg dksX5_hasWord_1 22 rfl rfl
theorem dksX5_hasWord_3 : cX5_hasWord.data.toList.drop 67 = dktX5_hasWord_3 := dk_seg dksX5_hasWord_2 23 rfl rfl
theorem dX5_hasWord_0 : decode cX5_hasWord 0 = .ok (.iconst 0, 1) := dk_3 (dk_at dksX5_hasWord_0 0 rfl rfl)
theorem dX5_hasWord_1 : decode cX5_hasWord 1 = .ok (.istore_n 3, 1) := dk_62 (dk_at dksX5_hasWord_0 1 rfl rfl)
theorem dX5_hasWord_2 : decode cX5_hasWord 2 = .ok (.iload_n 3, 1) := dk_29 (dk_at dksX5_hasWord_0 2 rfl rfl)
theorem dX5_hasWord_3 : decode cX5_hasWord 3 = .ok (.aload_n 0, 1) := dk_42 (dk_at dksX5_hasWord_0 3 rfl rfl)
theorem dX5_hasWord_4 : decode cX5_hasWord 4 = .ok (.getfield 18, 3) := dk_180 0 18 (dk_at dksX5_hasWord_0 4 rfl rfl)
theorem dX5_hasWord_7 : decode cX5_hasWord 7 = .ok (.getfield 241, 3) := dk_180 0 241 (dk_at dksX5_hasWord_0 7 rfl rfl)
theorem dX5_hasWord_10 : decode cX5_hasWord 10 = .ok (.invokeinterface 224 1, 5) := by decide +kernel
theorem dX5_hasWord_15 : decode cX5_hasWord 15 = .ok (.if_icmp .ge 55, 3) := dk_162 0 55 (dk_at dksX5_hasWord_0 15 rfl rfl)
theorem dX5_hasWord_18 : decode cX5_hasWord 18 = .ok (.aload_n 0, 1) := dk_42 (dk_at dksX5_hasWord_0 18 rfl rfl)
theorem dX5_hasWord_19 : decode cX5_hasWord 19 = .ok (.getfield 18, 3) := dk_180 0 18 (dk_at dksX5_hasWord_0 19 rfl rfl)
theorem dX5_hasWord_22 : decode cX5_hasWord 22 = .ok (.getfield 241, 3) := dk_180 0 241 (dk_at dksX5_hasWord_1 0 rfl rfl)
theorem dX5_hasWord_25 : decode cX5_hasWord 25 = .ok (.iload_n 3, 1) := dk_29 (dk_at dksX5_hasWord_1 3 rfl rfl)
theorem dX5_hasWord_26 : decode cX5_hasWord 26 = .ok (.invokeinterface 244 2, 5) := by decide +kernel
theorem dX5_hasWord_31 : decode cX5_hasWord 31 = .ok (.checkcast 248, 3) := dk_192 0 248 (dk_at dksX5_hasWord_1 9 rfl rfl)
theorem dX5_hasWord_34 : decode cX5_hasWord 34 = .ok (.iconst 0, 1) := dk_3 (dk_at dksX5_hasWord_1 12 rfl rfl)
theorem dX5_hasWord_35 : decode cX5_hasWord 35 = .ok (.iaload, 1) := dk_46 (dk_at dksX5_hasWord_1 13 rfl rfl)
theorem dX5_hasWord_36 : decode cX5_hasWord 36 = .ok (.iload_n 1, 1) := dk_27 (dk_at dksX5_hasWord_1 14 rfl rfl)
theorem dX5_hasWord_37 : decode cX5_hasWord 37 = .ok (.if_icmp .ne 27, 3) := dk_160 0 27 (dk_at dksX5_hasWord_1 15 rfl rfl)
theorem dX5_hasWord_40 : decode cX5_hasWord 40 = .ok (.aload_n 0, 1) := dk_42 (dk_at dksX5_hasWord_1 18 rfl rfl)
theorem dX5_hasWord_41 : decode cX5_hasWord 41 = .ok (.getfield 18, 3) := dk_180 0 18 (dk_at dksX5_hasWord_1 19 rfl rfl)
theorem dX5_hasWord_44 : decode cX5_hasWord 44 = .ok (.getfield 241, 3) := dk_180 0 241 (dk_at dksX5_hasWord_2 0 rfl rfl)
theorem dX5_hasWord_47 : decode cX5_hasWord 47 = .ok (.iload_n 3, 1) := dk_29 (dk_at dksX5_hasWord_2 3 rfl rfl)
theorem dX5_hasWord_48 : decode cX5_hasWord 48 = .ok (.invokeinterface 244 2, 5) := by decide +kernel
theorem dX5_hasWord_53 : decode cX5_hasWord 53 = .ok (.checkcast 248, 3) := dk_192 0 248 (dk_at dksX5_hasWord_2 9 rfl rfl)
theorem dX5_hasWord_56 : decode cX5_hasWord 56 = .ok (.iconst 1, 1) := dk_4 (dk_at dksX5_hasWord_2 12 rfl rfl)
theorem dX5_hasWord_57 : decode cX5_hasWord 57 = .ok (.iaload, 1) := dk_46 (dk_at dksX5_hasWord_2 13 rfl rfl)
theorem dX5_hasWord_58 : decode cX5_hasWord 58 = .ok (.iload_n 2, 1) := dk_28 (dk_at dksX5_hasWord_2 14 rfl rfl)
theorem dX5_hasWord_59 : decode cX5_hasWord 59 = .ok (.if_icmp .ne 5, 3) := dk_160 0 5 (dk_at dksX5_hasWord_2 15 rfl rfl)
theorem dX5_hasWord_62 : decode cX5_hasWord 62 = .ok (.iconst 1, 1) := dk_4 (dk_at dksX5_hasWord_2 18 rfl rfl)
theorem dX5_hasWord_63 : decode cX5_hasWord 63 = .ok (.ireturn, 1) := dk_172 (dk_at dksX5_hasWord_2 19 rfl rfl)
theorem dX5_hasWord_64 : decode cX5_hasWord 64 = .ok (.iinc 3 1, 3) := dk_132 3 1 (dk_at dksX5_hasWord_2 20 rfl rfl)
theorem dX5_hasWord_67 : decode cX5_hasWord 67 = .ok (.goto (-65), 3) := dk_167 255 191 (dk_at dksX5_hasWord_3 0 rfl rfl)
theorem dX5_hasWord_70 : decode cX5_hasWord 70 = .ok (.iconst 0, 1) := dk_3 (dk_at dksX5_hasWord_3 3 rfl rfl)
theorem dX5_hasWord_71 : decode cX5_hasWord 71 = .ok (.ireturn, 1) := dk_172 (dk_at dksX5_hasWord_3 4 rfl rfl)
theorem q146 : (Jvm.Cond.initialized "TwinInk$Reader") ∈ lw_all := lw_g (lw_at lw_m1 12 rfl) rfl
theorem q212 : (Jvm.Cond.fieldLinkNest "TwinInk$Reader" (241 : Nat) "TwinInk$Office" "words" "Ljava/util/List;" "TwinInk") ∈ lw_tbl := lw_at lw_m1 78 rfl
theorem q215 : (Jvm.Cond.fieldLinkNest "TwinInk$Reader" (237 : Nat) "TwinInk$Office" "rounds" "Ljava/util/List;" "TwinInk") ∈ lw_tbl := lw_at lw_m1 81 rfl
theorem q218 : (Jvm.Cond.fieldLinkNest "TwinInk$Reader" (147 : Nat) "TwinInk$Office" "sheets" "I" "TwinInk") ∈ lw_tbl := lw_at lw_m1 84 rfl
theorem q221 : (Jvm.Cond.fieldLinkNest "TwinInk$Reader" (262 : Nat) "TwinInk$Office" "slack" "I" "TwinInk") ∈ lw_tbl := lw_at lw_m1 87 rfl
theorem q223 : (Jvm.Cond.fieldLinkNest "TwinInk$Reader" (264 : Nat) "TwinInk$Office" "lays" "LTwinInk$Form;" "TwinInk") ∈ lw_tbl := lw_at lw_m1 89 rfl
theorem q225 : (Jvm.Cond.fieldLinkNest "TwinInk$Reader" (267 : Nat) "TwinInk$Office" "moulds" "LTwinInk$Form;" "TwinInk") ∈ lw_tbl := lw_at lw_m1 91 rfl
theorem q247 : (Jvm.Cond.fieldLinkNest "TwinInk$Reader" (211 : Nat) "TwinInk$Service" "left" "[I" "TwinInk") ∈ lw_tbl := lw_at lw_m1 113 rfl
theorem q250 : (Jvm.Cond.fieldLinkNest "TwinInk$Reader" (214 : Nat) "TwinInk$Service" "edge" "[I" "TwinInk") ∈ lw_tbl := lw_at lw_m1 116 rfl
theorem q252 : (Jvm.Cond.fieldLinkNest "TwinInk$Reader" (217 : Nat) "TwinInk$Service" "at" "[I" "TwinInk") ∈ lw_tbl := lw_at lw_m1 118 rfl
theorem q280 : (Jvm.Cond.fieldLinkNest "TwinInk$Reader" (77 : Nat) "TwinInk" "tape" "[B" "TwinInk") ∈ lw_tbl := lw_at lw_m1 146 rfl
theorem q397 : (Jvm.Cond.selects "TwinInk$Reader" ({ cls := "java/lang/Object", name := "getClass", desc := "()Ljava/lang/Class;" } : Jvm.MethodName) ({ cls := "java/lang/Object", name := "getClass", desc := "()Ljava/lang/Class;" } : Jvm.MethodName)) ∈ lw_all := lw_g (lw_at lw_m2 23 rfl) rfl
theorem q759 : (Jvm.Cond.instantiable "TwinInk$Reader" (14 : Nat)) ∈ lw_all := lw_g (lw_at lw_m3 145 rfl) rfl
theorem q761 : (Jvm.Cond.instanceMethod ({ cls := "TwinInk$Reader", name := "<init>", desc := "(LTwinInk;I)V" } : Jvm.MethodName)) ∈ lw_all := lw_g (lw_at lw_m3 147 rfl) rfl
theorem q762 : (Jvm.Cond.code ({ cls := "TwinInk$Reader", name := "<init>", desc := "(LTwinInk;I)V" } : Jvm.MethodName) prog_7_method_1_code (3 : Nat) (Option.none : Option Jvm.ClassFile.FieldType)) ∈ lw_all := lw_g (lw_at lw_m3 148 rfl) rfl
theorem q763 : (Jvm.Cond.methodLink "TwinInk$Reader" (9 : Nat) ({ cls := "java/lang/Object", name := "<init>", desc := "()V" } : Jvm.MethodName)) ∈ lw_all := lw_g (lw_at lw_m3 149 rfl) rfl
theorem q764 : (Jvm.Cond.classLink "TwinInk$Reader" (15 : Nat) "TwinInk$Office") ∈ lw_all := lw_g (lw_at lw_m3 150 rfl) rfl
theorem q765 : (Jvm.Cond.methodLinkNest "TwinInk$Reader" (17 : Nat) ({ cls := "TwinInk$Office", name := "<init>", desc := "()V" } : Jvm.MethodName) "TwinInk") ∈ lw_tbl := lw_at lw_m3 151 rfl
theorem q766 : (Jvm.Cond.classLink "TwinInk$Reader" (22 : Nat) "TwinInk$Service") ∈ lw_all := lw_g (lw_at lw_m3 152 rfl) rfl
theorem q767 : (Jvm.Cond.methodLinkNest "TwinInk$Reader" (24 : Nat) ({ cls := "TwinInk$Service", name := "<init>", desc := "(LTwinInk;)V" } : Jvm.MethodName) "TwinInk") ∈ lw_tbl := lw_at lw_m3 153 rfl
theorem q768 : (Jvm.Cond.classLink "TwinInk$Reader" (31 : Nat) "java/lang/String") ∈ lw_all := lw_g (lw_at lw_m3 154 rfl) rfl
theorem q770 : (Jvm.Cond.stringRef "TwinInk$Reader" (33 : Nat) "slack") ∈ lw_tbl := lw_at lw_m3 156 rfl
theorem q771 : (Jvm.Cond.stringRef "TwinInk$Reader" (35 : Nat) "lays") ∈ lw_tbl := lw_at lw_m3 157 rfl
theorem q772 : (Jvm.Cond.stringRef "TwinInk$Reader" (37 : Nat) "moulds") ∈ lw_tbl := lw_at lw_m3 158 rfl
theorem q773 : (Jvm.Cond.stringRef "TwinInk$Reader" (43 : Nat) "town") ∈ lw_tbl := lw_at lw_m3 159 rfl
theorem q774 : (Jvm.Cond.stringRef "TwinInk$Reader" (45 : Nat) "sheets") ∈ lw_tbl := lw_at lw_m3 160 rfl
theorem q775 : (Jvm.Cond.stringRef "TwinInk$Reader" (47 : Nat) "clerks") ∈ lw_tbl := lw_at lw_m3 161 rfl
theorem q776 : (Jvm.Cond.stringRef "TwinInk$Reader" (49 : Nat) "known") ∈ lw_tbl := lw_at lw_m3 162 rfl
theorem q777 : (Jvm.Cond.stringRef "TwinInk$Reader" (51 : Nat) "day") ∈ lw_tbl := lw_at lw_m3 163 rfl
theorem q778 : (Jvm.Cond.stringRef "TwinInk$Reader" (56 : Nat) "left") ∈ lw_tbl := lw_at lw_m3 164 rfl
theorem q779 : (Jvm.Cond.stringRef "TwinInk$Reader" (58 : Nat) "right") ∈ lw_tbl := lw_at lw_m3 165 rfl
theorem q780 : (Jvm.Cond.stringRef "TwinInk$Reader" (60 : Nat) "sheet") ∈ lw_tbl := lw_at lw_m3 166 rfl
theorem q781 : (Jvm.Cond.stringRef "TwinInk$Reader" (62 : Nat) "borne") ∈ lw_tbl := lw_at lw_m3 167 rfl
theorem q782 : (Jvm.Cond.fieldLink "TwinInk$Reader" (70 : Nat) "TwinInk$Reader" "size" "I") ∈ lw_all := lw_g (lw_at lw_m3 168 rfl) rfl
theorem q783 : (Jvm.Cond.fieldLink "TwinInk$Reader" (18 : Nat) "TwinInk$Reader" "made" "LTwinInk$Office;") ∈ lw_all := lw_g (lw_at lw_m3 169 rfl) rfl
theorem q784 : (Jvm.Cond.fieldLink "TwinInk$Reader" (27 : Nat) "TwinInk$Reader" "begun" "LTwinInk$Service;") ∈ lw_all := lw_g (lw_at lw_m3 170 rfl) rfl
theorem q786 : (Jvm.Cond.fieldLink "TwinInk$Reader" (39 : Nat) "TwinInk$Reader" "once" "[Ljava/lang/String;") ∈ lw_all := lw_g (lw_at lw_m3 172 rfl) rfl
theorem q787 : (Jvm.Cond.fieldLink "TwinInk$Reader" (53 : Nat) "TwinInk$Reader" "ofLays" "[Ljava/lang/String;") ∈ lw_all := lw_g (lw_at lw_m3 173 rfl) rfl
theorem q788 : (Jvm.Cond.fieldLink "TwinInk$Reader" (64 : Nat) "TwinInk$Reader" "ofMoulds" "[Ljava/lang/String;") ∈ lw_all := lw_g (lw_at lw_m3 174 rfl) rfl
theorem q789 : (Jvm.Cond.fieldLink "TwinInk$Reader" (67 : Nat) "TwinInk$Reader" "names" "[Ljava/lang/String;") ∈ lw_all := lw_g (lw_at lw_m3 175 rfl) rfl
theorem q790 : (Jvm.Cond.fieldLink "TwinInk$Reader" (74 : Nat) "TwinInk$Reader" "at" "I") ∈ lw_all := lw_g (lw_at lw_m3 176 rfl) rfl
theorem q791 : (Jvm.Cond.fieldLink "TwinInk$Reader" (92 : Nat) "TwinInk$Reader" "token" "I") ∈ lw_all := lw_g (lw_at lw_m3 177 rfl) rfl
theorem q792 : (Jvm.Cond.fieldLink "TwinInk$Reader" (89 : Nat) "TwinInk$Reader" "begins" "I") ∈ lw_all := lw_g (lw_at lw_m3 178 rfl) rfl
theorem q794 : (Jvm.Cond.fieldLink "TwinInk$Reader" (118 : Nat) "TwinInk$Reader" "ends" "I") ∈ lw_all := lw_g (lw_at lw_m3 180 rfl) rfl
theorem q795 : (Jvm.Cond.fieldLink "TwinInk$Reader" (102 : Nat) "TwinInk$Reader" "number" "I") ∈ lw_all := lw_g (lw_at lw_m3 181 rfl) rfl
theorem q796 : (Jvm.Cond.fieldLink "TwinInk$Reader" (256 : Nat) "TwinInk$Reader" "done" "I") ∈ lw_all := lw_g (lw_at lw_m3 182 rfl) rfl
theorem q797 : (Jvm.Cond.fieldLink "TwinInk$Reader" (3 : Nat) "TwinInk$Reader" "this$0" "LTwinInk;") ∈ lw_all := lw_g (lw_at lw_m3 183 rfl) rfl
theorem q798 : (Jvm.Cond.laysFinal "TwinInk$Reader" "TwinInk$Reader" "size" "I") ∈ lw_all := lw_g (lw_at lw_m3 184 rfl) rfl
theorem q799 : (Jvm.Cond.soleField "TwinInk$Reader" "size") ∈ lw_all := lw_g (lw_at lw_m3 185 rfl) rfl
theorem q800 : (Jvm.Cond.laysFinal "TwinInk$Reader" "TwinInk$Reader" "made" "LTwinInk$Office;") ∈ lw_all := lw_g (lw_at lw_m3 186 rfl) rfl
theorem q801 : (Jvm.Cond.soleField "TwinInk$Reader" "made") ∈ lw_all := lw_g (lw_at lw_m3 187 rfl) rfl
theorem q802 : (Jvm.Cond.laysFinal "TwinInk$Reader" "TwinInk$Reader" "begun" "LTwinInk$Service;") ∈ lw_all := lw_g (lw_at lw_m3 188 rfl) rfl
theorem q803 : (Jvm.Cond.soleField "TwinInk$Reader" "begun") ∈ lw_all := lw_g (lw_at lw_m3 189 rfl) rfl
theorem q804 : (Jvm.Cond.laysFinal "TwinInk$Reader" "TwinInk$Reader" "once" "[Ljava/lang/String;") ∈ lw_all := lw_g (lw_at lw_m3 190 rfl) rfl
theorem q805 : (Jvm.Cond.soleField "TwinInk$Reader" "once") ∈ lw_all := lw_g (lw_at lw_m3 191 rfl) rfl
theorem q806 : (Jvm.Cond.laysFinal "TwinInk$Reader" "TwinInk$Reader" "ofLays" "[Ljava/lang/String;") ∈ lw_all := lw_g (lw_at lw_m3 192 rfl) rfl
theorem q807 : (Jvm.Cond.soleField "TwinInk$Reader" "ofLays") ∈ lw_all := lw_g (lw_at lw_m3 193 rfl) rfl
theorem q808 : (Jvm.Cond.laysFinal "TwinInk$Reader" "TwinInk$Reader" "ofMoulds" "[Ljava/lang/String;") ∈ lw_all := lw_g (lw_at lw_m3 194 rfl) rfl
theorem q809 : (Jvm.Cond.soleField "TwinInk$Reader" "ofMoulds") ∈ lw_all := lw_g (lw_at lw_m3 195 rfl) rfl
theorem q810 : (Jvm.Cond.lays "TwinInk$Reader" "TwinInk$Reader" "names" "[Ljava/lang/String;") ∈ lw_all := lw_g (lw_at lw_m3 196 rfl) rfl
theorem q811 : (Jvm.Cond.soleField "TwinInk$Reader" "names") ∈ lw_all := lw_g (lw_at lw_m3 197 rfl) rfl
theorem q812 : (Jvm.Cond.lays "TwinInk$Reader" "TwinInk$Reader" "at" "I") ∈ lw_all := lw_g (lw_at lw_m3 198 rfl) rfl
theorem q813 : (Jvm.Cond.soleField "TwinInk$Reader" "at") ∈ lw_all := lw_g (lw_at lw_m3 199 rfl) rfl
theorem q814 : (Jvm.Cond.lays "TwinInk$Reader" "TwinInk$Reader" "token" "I") ∈ lw_all := lw_g (lw_at lw_m3 200 rfl) rfl
theorem q815 : (Jvm.Cond.soleField "TwinInk$Reader" "token") ∈ lw_all := lw_g (lw_at lw_m3 201 rfl) rfl
theorem q816 : (Jvm.Cond.lays "TwinInk$Reader" "TwinInk$Reader" "begins" "I") ∈ lw_all := lw_g (lw_at lw_m3 202 rfl) rfl
theorem q817 : (Jvm.Cond.soleField "TwinInk$Reader" "begins") ∈ lw_all := lw_g (lw_at lw_m3 203 rfl) rfl
theorem q818 : (Jvm.Cond.lays "TwinInk$Reader" "TwinInk$Reader" "ends" "I") ∈ lw_all := lw_g (lw_at lw_m3 204 rfl) rfl
theorem q819 : (Jvm.Cond.soleField "TwinInk$Reader" "ends") ∈ lw_all := lw_g (lw_at lw_m3 205 rfl) rfl
theorem q820 : (Jvm.Cond.lays "TwinInk$Reader" "TwinInk$Reader" "number" "I") ∈ lw_all := lw_g (lw_at lw_m3 206 rfl) rfl
theorem q821 : (Jvm.Cond.soleField "TwinInk$Reader" "number") ∈ lw_all := lw_g (lw_at lw_m3 207 rfl) rfl
theorem q822 : (Jvm.Cond.lays "TwinInk$Reader" "TwinInk$Reader" "done" "I") ∈ lw_all := lw_g (lw_at lw_m3 208 rfl) rfl
theorem q823 : (Jvm.Cond.soleField "TwinInk$Reader" "done") ∈ lw_all := lw_g (lw_at lw_m3 209 rfl) rfl
theorem q824 : (Jvm.Cond.laysFinal "TwinInk$Reader" "TwinInk$Reader" "this$0" "LTwinInk;") ∈ lw_all := lw_g (lw_at lw_m3 210 rfl) rfl
theorem q825 : (Jvm.Cond.soleField "TwinInk$Reader" "this$0") ∈ lw_all := lw_g (lw_at lw_m3 211 rfl) rfl
theorem q826 : (Jvm.Cond.superclass "TwinInk$Reader" "java/lang/Object") ∈ lw_all := lw_g (lw_at lw_m3 212 rfl) rfl
theorem q828 : (Jvm.Cond.instanceMethod ({ cls := "TwinInk$Reader", name := "read", desc := "()LTwinInk$Office;" } : Jvm.MethodName)) ∈ lw_all := lw_g (lw_at lw_m3 214 rfl) rfl
theorem q829 : (Jvm.Cond.selects "TwinInk$Reader" ({ cls := "TwinInk$Reader", name := "read", desc := "()LTwinInk$Office;" } : Jvm.MethodName) ({ cls := "TwinInk$Reader", name := "read", desc := "()LTwinInk$Office;" } : Jvm.MethodName)) ∈ lw_all := lw_g (lw_at lw_m3 215 rfl) rfl
theorem q830 : (Jvm.Cond.code ({ cls := "TwinInk$Reader", name := "read", desc := "()LTwinInk$Office;" } : Jvm.MethodName) prog_7_method_27_code (1 : Nat) (Option.some (Jvm.ClassFile.FieldType.object "TwinInk$Office"))) ∈ lw_all := lw_g (lw_at lw_m3 216 rfl) rfl
theorem q831 : (Jvm.Cond.methodLink "TwinInk$Reader" (132 : Nat) ({ cls := "TwinInk$Reader", name := "next", desc := "()V" } : Jvm.MethodName)) ∈ lw_all := lw_g (lw_at lw_m3 217 rfl) rfl
theorem q832 : (Jvm.Cond.privateMethod ({ cls := "TwinInk$Reader", name := "next", desc := "()V" } : Jvm.MethodName)) ∈ lw_tbl := lw_at lw_m3 218 rfl
theorem q833 : (Jvm.Cond.instanceMethod ({ cls := "TwinInk$Reader", name := "next", desc := "()V" } : Jvm.MethodName)) ∈ lw_all := lw_g (lw_at lw_m3 219 rfl) rfl
theorem q834 : (Jvm.Cond.code ({ cls := "TwinInk$Reader", name := "next", desc := "()V" } : Jvm.MethodName) prog_7_method_5_code (1 : Nat) (Option.none : Option Jvm.ClassFile.FieldType)) ∈ lw_all := lw_g (lw_at lw_m3 220 rfl) rfl
theorem q835 : (Jvm.Cond.methodLink "TwinInk$Reader" (81 : Nat) ({ cls := "TwinInk$Reader", name := "here", desc := "()I" } : Jvm.MethodName)) ∈ lw_all := lw_g (lw_at lw_m3 221 rfl) rfl
theorem q836 : (Jvm.Cond.privateMethod ({ cls := "TwinInk$Reader", name := "here", desc := "()I" } : Jvm.MethodName)) ∈ lw_tbl := lw_at lw_m3 222 rfl
theorem q837 : (Jvm.Cond.instanceMethod ({ cls := "TwinInk$Reader", name := "here", desc := "()I" } : Jvm.MethodName)) ∈ lw_all := lw_g (lw_at lw_m3 223 rfl) rfl
theorem q838 : (Jvm.Cond.code ({ cls := "TwinInk$Reader", name := "here", desc := "()I" } : Jvm.MethodName) prog_7_method_2_code (1 : Nat) (Option.some Jvm.ClassFile.FieldType.int)) ∈ lw_all := lw_g (lw_at lw_m3 224 rfl) rfl
theorem q839 : (Jvm.Cond.methodLink "TwinInk$Reader" (95 : Nat) ({ cls := "TwinInk$Reader", name := "isLetter", desc := "()Z" } : Jvm.MethodName)) ∈ lw_all := lw_g (lw_at lw_m3 225 rfl) rfl
theorem q840 : (Jvm.Cond.privateMethod ({ cls := "TwinInk$Reader", name := "isLetter", desc := "()Z" } : Jvm.MethodName)) ∈ lw_tbl := lw_at lw_m3 226 rfl
theorem q841 : (Jvm.Cond.instanceMethod ({ cls := "TwinInk$Reader", name := "isLetter", desc := "()Z" } : Jvm.MethodName)) ∈ lw_all := lw_g (lw_at lw_m3 227 rfl) rfl
theorem q842 : (Jvm.Cond.code ({ cls := "TwinInk$Reader", name := "isLetter", desc := "()Z" } : Jvm.MethodName) prog_7_method_3_code (1 : Nat) (Option.some Jvm.ClassFile.FieldType.boolean)) ∈ lw_all := lw_g (lw_at lw_m3 228 rfl) rfl
theorem q843 : (Jvm.Cond.methodLinkNest "TwinInk$Reader" (85 : Nat) ({ cls := "TwinInk", name := "in", desc := "(III)Z" } : Jvm.MethodName) "TwinInk") ∈ lw_tbl := lw_at lw_m3 229 rfl
theorem q844 : (Jvm.Cond.methodLink "TwinInk$Reader" (99 : Nat) ({ cls := "TwinInk$Reader", name := "isDigit", desc := "()Z" } : Jvm.MethodName)) ∈ lw_all := lw_g (lw_at lw_m3 230 rfl) rfl
theorem q845 : (Jvm.Cond.privateMethod ({ cls := "TwinInk$Reader", name := "isDigit", desc := "()Z" } : Jvm.MethodName)) ∈ lw_tbl := lw_at lw_m3 231 rfl
theorem q846 : (Jvm.Cond.instanceMethod ({ cls := "TwinInk$Reader", name := "isDigit", desc := "()Z" } : Jvm.MethodName)) ∈ lw_all := lw_g (lw_at lw_m3 232 rfl) rfl
theorem q847 : (Jvm.Cond.code ({ cls := "TwinInk$Reader", name := "isDigit", desc := "()Z" } : Jvm.MethodName) prog_7_method_4_code (1 : Nat) (Option.some Jvm.ClassFile.FieldType.boolean)) ∈ lw_all := lw_g (lw_at lw_m3 233 rfl) rfl
theorem q848 : (Jvm.Cond.constant "TwinInk$Reader" (105 : Nat) (100000 : Int32)) ∈ lw_all := lw_g (lw_at lw_m3 234 rfl) rfl
theorem q849 : (Jvm.Cond.methodLink "TwinInk$Reader" (106 : Nat) ({ cls := "java/lang/Math", name := "min", desc := "(II)I" } : Jvm.MethodName)) ∈ lw_all := lw_g (lw_at lw_m3 235 rfl) rfl
theorem q850 : (Jvm.Cond.stringRef "TwinInk$Reader" (112 : Nat) ";()+-*/<=") ∈ lw_tbl := lw_at lw_m3 236 rfl
theorem q851 : (Jvm.Cond.methodLink "TwinInk$Reader" (114 : Nat) ({ cls := "java/lang/String", name := "indexOf", desc := "(I)I" } : Jvm.MethodName)) ∈ lw_all := lw_g (lw_at lw_m3 237 rfl) rfl
theorem q920 : (Jvm.Cond.methodLink "TwinInk$Reader" (282 : Nat) ({ cls := "TwinInk$Reader", name := "line", desc := "()V" } : Jvm.MethodName)) ∈ lw_all := lw_g (lw_at lw_m4 66 rfl) rfl
theorem q921 : (Jvm.Cond.privateMethod ({ cls := "TwinInk$Reader", name := "line", desc := "()V" } : Jvm.MethodName)) ∈ lw_tbl := lw_at lw_m4 67 rfl
theorem q922 : (Jvm.Cond.instanceMethod ({ cls := "TwinInk$Reader", name := "line", desc := "()V" } : Jvm.MethodName)) ∈ lw_all := lw_g (lw_at lw_m4 68 rfl) rfl
theorem q923 : (Jvm.Cond.code ({ cls := "TwinInk$Reader", name := "line", desc := "()V" } : Jvm.MethodName) prog_7_method_26_code (2 : Nat) (Option.none : Option Jvm.ClassFile.FieldType)) ∈ lw_all := lw_g (lw_at lw_m4 69 rfl) rfl
theorem q924 : (Jvm.Cond.methodLink "TwinInk$Reader" (162 : Nat) ({ cls := "TwinInk$Reader", name := "which", desc := "([Ljava/lang/String;)I" } : Jvm.MethodName)) ∈ lw_all := lw_g (lw_at lw_m4 70 rfl) rfl
theorem q925 : (Jvm.Cond.privateMethod ({ cls := "TwinInk$Reader", name := "which", desc := "([Ljava/lang/String;)I" } : Jvm.MethodName)) ∈ lw_tbl := lw_at lw_m4 71 rfl
theorem q926 : (Jvm.Cond.instanceMethod ({ cls := "TwinInk$Reader", name := "which", desc := "([Ljava/lang/String;)I" } : Jvm.MethodName)) ∈ lw_all := lw_g (lw_at lw_m4 72 rfl) rfl
theorem q927 : (Jvm.Cond.code ({ cls := "TwinInk$Reader", name := "which", desc := "([Ljava/lang/String;)I" } : Jvm.MethodName) prog_7_method_7_code (3 : Nat) (Option.some Jvm.ClassFile.FieldType.int)) ∈ lw_all := lw_g (lw_at lw_m4 73 rfl) rfl
theorem q928 : (Jvm.Cond.methodLink "TwinInk$Reader" (128 : Nat) ({ cls := "TwinInk$Reader", name := "is", desc := "(Ljava/lang/String;)Z" } : Jvm.MethodName)) ∈ lw_all := lw_g (lw_at lw_m4 74 rfl) rfl
theorem q929 : (Jvm.Cond.privateMethod ({ cls := "TwinInk$Reader", name := "is", desc := "(Ljava/lang/String;)Z" } : Jvm.MethodName)) ∈ lw_tbl := lw_at lw_m4 75 rfl
theorem q930 : (Jvm.Cond.instanceMethod ({ cls := "TwinInk$Reader", name := "is", desc := "(Ljava/lang/String;)Z" } : Jvm.MethodName)) ∈ lw_all := lw_g (lw_at lw_m4 76 rfl) rfl
theorem q931 : (Jvm.Cond.code ({ cls := "TwinInk$Reader", name := "is", desc := "(Ljava/lang/String;)Z" } : Jvm.MethodName) prog_7_method_6_code (3 : Nat) (Option.some Jvm.ClassFile.FieldType.boolean)) ∈ lw_all := lw_g (lw_at lw_m4 77 rfl) rfl
theorem q932 : (Jvm.Cond.methodLink "TwinInk$Reader" (121 : Nat) ({ cls := "java/lang/String", name := "length", desc := "()I" } : Jvm.MethodName)) ∈ lw_all := lw_g (lw_at lw_m4 78 rfl) rfl
theorem q933 : (Jvm.Cond.methodLink "TwinInk$Reader" (124 : Nat) ({ cls := "java/lang/String", name := "charAt", desc := "(I)C" } : Jvm.MethodName)) ∈ lw_all := lw_g (lw_at lw_m4 79 rfl) rfl
theorem q948 : (Jvm.Cond.methodLink "TwinInk$Reader" (269 : Nat) ({ cls := "TwinInk$Reader", name := "only", desc := "(I)V" } : Jvm.MethodName)) ∈ lw_all := lw_g (lw_at lw_m4 94 rfl) rfl
theorem q949 : (Jvm.Cond.privateMethod ({ cls := "TwinInk$Reader", name := "only", desc := "(I)V" } : Jvm.MethodName)) ∈ lw_tbl := lw_at lw_m4 95 rfl
theorem q950 : (Jvm.Cond.instanceMethod ({ cls := "TwinInk$Reader", name := "only", desc := "(I)V" } : Jvm.MethodName)) ∈ lw_all := lw_g (lw_at lw_m4 96 rfl) rfl
theorem q951 : (Jvm.Cond.code ({ cls := "TwinInk$Reader", name := "only", desc := "(I)V" } : Jvm.MethodName) prog_7_method_25_code (3 : Nat) (Option.none : Option Jvm.ClassFile.FieldType)) ∈ lw_all := lw_g (lw_at lw_m4 97 rfl) rfl
theorem q952 : (Jvm.Cond.methodLinkNest "TwinInk$Reader" (259 : Nat) ({ cls := "TwinInk", name := "isOf", desc := "(II)Z" } : Jvm.MethodName) "TwinInk") ∈ lw_tbl := lw_at lw_m4 98 rfl
theorem q953 : (Jvm.Cond.methodLink "TwinInk$Reader" (140 : Nat) ({ cls := "TwinInk$Reader", name := "want", desc := "(ZI)V" } : Jvm.MethodName)) ∈ lw_all := lw_g (lw_at lw_m4 99 rfl) rfl
theorem q954 : (Jvm.Cond.privateMethod ({ cls := "TwinInk$Reader", name := "want", desc := "(ZI)V" } : Jvm.MethodName)) ∈ lw_tbl := lw_at lw_m4 100 rfl
theorem q955 : (Jvm.Cond.instanceMethod ({ cls := "TwinInk$Reader", name := "want", desc := "(ZI)V" } : Jvm.MethodName)) ∈ lw_all := lw_g (lw_at lw_m4 101 rfl) rfl
theorem q956 : (Jvm.Cond.code ({ cls := "TwinInk$Reader", name := "want", desc := "(ZI)V" } : Jvm.MethodName) prog_7_method_10_code (3 : Nat) (Option.none : Option Jvm.ClassFile.FieldType)) ∈ lw_all := lw_g (lw_at lw_m4 102 rfl) rfl
theorem q957 : (Jvm.Cond.classLink "TwinInk$Reader" (135 : Nat) "TwinInk$Wrong") ∈ lw_all := lw_g (lw_at lw_m4 103 rfl) rfl
theorem q966 : (Jvm.Cond.methodLink "TwinInk$Reader" (137 : Nat) ({ cls := "TwinInk$Wrong", name := "<init>", desc := "(I)V" } : Jvm.MethodName)) ∈ lw_all := lw_g (lw_at lw_m4 112 rfl) rfl
theorem q981 : (Jvm.Cond.methodLink "TwinInk$Reader" (151 : Nat) ({ cls := "TwinInk$Reader", name := "number", desc := "(II)I" } : Jvm.MethodName)) ∈ lw_all := lw_g (lw_at lw_m4 127 rfl) rfl
theorem q982 : (Jvm.Cond.privateMethod ({ cls := "TwinInk$Reader", name := "number", desc := "(II)I" } : Jvm.MethodName)) ∈ lw_tbl := lw_at lw_m4 128 rfl
theorem q983 : (Jvm.Cond.instanceMethod ({ cls := "TwinInk$Reader", name := "number", desc := "(II)I" } : Jvm.MethodName)) ∈ lw_all := lw_g (lw_at lw_m4 129 rfl) rfl
theorem q984 : (Jvm.Cond.code ({ cls := "TwinInk$Reader", name := "number", desc := "(II)I" } : Jvm.MethodName) prog_7_method_12_code (4 : Nat) (Option.some Jvm.ClassFile.FieldType.int)) ∈ lw_all := lw_g (lw_at lw_m4 130 rfl) rfl
theorem q985 : (Jvm.Cond.methodLink "TwinInk$Reader" (144 : Nat) ({ cls := "TwinInk$Reader", name := "numberNow", desc := "(II)I" } : Jvm.MethodName)) ∈ lw_all := lw_g (lw_at lw_m4 131 rfl) rfl
theorem q986 : (Jvm.Cond.privateMethod ({ cls := "TwinInk$Reader", name := "numberNow", desc := "(II)I" } : Jvm.MethodName)) ∈ lw_tbl := lw_at lw_m4 132 rfl
theorem q987 : (Jvm.Cond.instanceMethod ({ cls := "TwinInk$Reader", name := "numberNow", desc := "(II)I" } : Jvm.MethodName)) ∈ lw_all := lw_g (lw_at lw_m4 133 rfl) rfl
theorem q988 : (Jvm.Cond.code ({ cls := "TwinInk$Reader", name := "numberNow", desc := "(II)I" } : Jvm.MethodName) prog_7_method_11_code (3 : Nat) (Option.some Jvm.ClassFile.FieldType.int)) ∈ lw_all := lw_g (lw_at lw_m4 134 rfl) rfl
theorem q989 : (Jvm.Cond.methodLink "TwinInk$Reader" (158 : Nat) ({ cls := "TwinInk$Reader", name := "expression", desc := "(I)LTwinInk$Form;" } : Jvm.MethodName)) ∈ lw_all := lw_g (lw_at lw_m4 135 rfl) rfl
theorem q990 : (Jvm.Cond.privateMethod ({ cls := "TwinInk$Reader", name := "expression", desc := "(I)LTwinInk$Form;" } : Jvm.MethodName)) ∈ lw_tbl := lw_at lw_m4 136 rfl
theorem q991 : (Jvm.Cond.instanceMethod ({ cls := "TwinInk$Reader", name := "expression", desc := "(I)LTwinInk$Form;" } : Jvm.MethodName)) ∈ lw_all := lw_g (lw_at lw_m4 137 rfl) rfl
theorem q992 : (Jvm.Cond.code ({ cls := "TwinInk$Reader", name := "expression", desc := "(I)LTwinInk$Form;" } : Jvm.MethodName) prog_7_method_20_code (3 : Nat) (Option.some (Jvm.ClassFile.FieldType.object "TwinInk$Form"))) ∈ lw_all := lw_g (lw_at lw_m4 138 rfl) rfl
theorem q993 : (Jvm.Cond.methodLink "TwinInk$Reader" (154 : Nat) ({ cls := "TwinInk$Reader", name := "isSign", desc := "(C)Z" } : Jvm.MethodName)) ∈ lw_all := lw_g (lw_at lw_m4 139 rfl) rfl
theorem q994 : (Jvm.Cond.privateMethod ({ cls := "TwinInk$Reader", name := "isSign", desc := "(C)Z" } : Jvm.MethodName)) ∈ lw_tbl := lw_at lw_m4 140 rfl
theorem q995 : (Jvm.Cond.instanceMethod ({ cls := "TwinInk$Reader", name := "isSign", desc := "(C)Z" } : Jvm.MethodName)) ∈ lw_all := lw_g (lw_at lw_m4 141 rfl) rfl
theorem q996 : (Jvm.Cond.code ({ cls := "TwinInk$Reader", name := "isSign", desc := "(C)Z" } : Jvm.MethodName) prog_7_method_8_code (2 : Nat) (Option.some Jvm.ClassFile.FieldType.boolean)) ∈ lw_all := lw_g (lw_at lw_m4 142 rfl) rfl
theorem q997 : (Jvm.Cond.classLink "TwinInk$Reader" (169 : Nat) "TwinInk$Chain") ∈ lw_all := lw_g (lw_at lw_m4 143 rfl) rfl
theorem q999 : (Jvm.Cond.methodLink "TwinInk$Reader" (207 : Nat) ({ cls := "TwinInk$Reader", name := "and", desc := "(I)LTwinInk$Form;" } : Jvm.MethodName)) ∈ lw_all := lw_g (lw_at lw_m4 145 rfl) rfl
theorem q1000 : (Jvm.Cond.privateMethod ({ cls := "TwinInk$Reader", name := "and", desc := "(I)LTwinInk$Form;" } : Jvm.MethodName)) ∈ lw_tbl := lw_at lw_m4 146 rfl
theorem q1001 : (Jvm.Cond.instanceMethod ({ cls := "TwinInk$Reader", name := "and", desc := "(I)LTwinInk$Form;" } : Jvm.MethodName)) ∈ lw_all := lw_g (lw_at lw_m4 147 rfl) rfl
theorem q1002 : (Jvm.Cond.code ({ cls := "TwinInk$Reader", name := "and", desc := "(I)LTwinInk$Form;" } : Jvm.MethodName) prog_7_method_19_code (3 : Nat) (Option.some (Jvm.ClassFile.FieldType.object "TwinInk$Form"))) ∈ lw_all := lw_g (lw_at lw_m4 148 rfl) rfl
theorem q1003 : (Jvm.Cond.methodLink "TwinInk$Reader" (200 : Nat) ({ cls := "TwinInk$Reader", name := "not", desc := "(I)LTwinInk$Form;" } : Jvm.MethodName)) ∈ lw_all := lw_g (lw_at lw_m4 149 rfl) rfl
theorem q1004 : (Jvm.Cond.privateMethod ({ cls := "TwinInk$Reader", name := "not", desc := "(I)LTwinInk$Form;" } : Jvm.MethodName)) ∈ lw_tbl := lw_at lw_m4 150 rfl
theorem q1005 : (Jvm.Cond.instanceMethod ({ cls := "TwinInk$Reader", name := "not", desc := "(I)LTwinInk$Form;" } : Jvm.MethodName)) ∈ lw_all := lw_g (lw_at lw_m4 151 rfl) rfl
theorem q1006 : (Jvm.Cond.code ({ cls := "TwinInk$Reader", name := "not", desc := "(I)LTwinInk$Form;" } : Jvm.MethodName) prog_7_method_18_code (6 : Nat) (Option.some (Jvm.ClassFile.FieldType.object "TwinInk$Form"))) ∈ lw_all := lw_g (lw_at lw_m4 152 rfl) rfl
theorem q1007 : (Jvm.Cond.stringRef "TwinInk$Reader" (192 : Nat) "not") ∈ lw_tbl := lw_at lw_m4 153 rfl
theorem q1008 : (Jvm.Cond.methodLink "TwinInk$Reader" (194 : Nat) ({ cls := "TwinInk$Reader", name := "sum", desc := "(I)LTwinInk$Form;" } : Jvm.MethodName)) ∈ lw_all := lw_g (lw_at lw_m4 154 rfl) rfl
theorem q1009 : (Jvm.Cond.privateMethod ({ cls := "TwinInk$Reader", name := "sum", desc := "(I)LTwinInk$Form;" } : Jvm.MethodName)) ∈ lw_tbl := lw_at lw_m4 155 rfl
theorem q1010 : (Jvm.Cond.instanceMethod ({ cls := "TwinInk$Reader", name := "sum", desc := "(I)LTwinInk$Form;" } : Jvm.MethodName)) ∈ lw_all := lw_g (lw_at lw_m4 156 rfl) rfl
theorem q1011 : (Jvm.Cond.code ({ cls := "TwinInk$Reader", name := "sum", desc := "(I)LTwinInk$Form;" } : Jvm.MethodName) prog_7_method_17_code (4 : Nat) (Option.some (Jvm.ClassFile.FieldType.object "TwinInk$Form"))) ∈ lw_all := lw_g (lw_at lw_m4 157 rfl) rfl
theorem q1012 : (Jvm.Cond.methodLink "TwinInk$Reader" (189 : Nat) ({ cls := "TwinInk$Reader", name := "product", desc := "(I)LTwinInk$Form;" } : Jvm.MethodName)) ∈ lw_all := lw_g (lw_at lw_m4 158 rfl) rfl
theorem q1013 : (Jvm.Cond.privateMethod ({ cls := "TwinInk$Reader", name := "product", desc := "(I)LTwinInk$Form;" } : Jvm.MethodName)) ∈ lw_tbl := lw_at lw_m4 159 rfl
theorem q1014 : (Jvm.Cond.instanceMethod ({ cls := "TwinInk$Reader", name := "product", desc := "(I)LTwinInk$Form;" } : Jvm.MethodName)) ∈ lw_all := lw_g (lw_at lw_m4 160 rfl) rfl
theorem q1015 : (Jvm.Cond.code ({ cls := "TwinInk$Reader", name := "product", desc := "(I)LTwinInk$Form;" } : Jvm.MethodName) prog_7_method_16_code (4 : Nat) (Option.some (Jvm.ClassFile.FieldType.object "TwinInk$Form"))) ∈ lw_all := lw_g (lw_at lw_m4 161 rfl) rfl
theorem q1016 : (Jvm.Cond.methodLink "TwinInk$Reader" (171 : Nat) ({ cls := "TwinInk$Reader", name := "part", desc := "(I)LTwinInk$Form;" } : Jvm.MethodName)) ∈ lw_all := lw_g (lw_at lw_m4 162 rfl) rfl
theorem q1017 : (Jvm.Cond.privateMethod ({ cls := "TwinInk$Reader", name := "part", desc := "(I)LTwinInk$Form;" } : Jvm.MethodName)) ∈ lw_tbl := lw_at lw_m4 163 rfl
theorem q1018 : (Jvm.Cond.instanceMethod ({ cls := "TwinInk$Reader", name := "part", desc := "(I)LTwinInk$Form;" } : Jvm.MethodName)) ∈ lw_all := lw_g (lw_at lw_m4 164 rfl) rfl
theorem q1019 : (Jvm.Cond.code ({ cls := "TwinInk$Reader", name := "part", desc := "(I)LTwinInk$Form;" } : Jvm.MethodName) prog_7_method_14_code (3 : Nat) (Option.some (Jvm.ClassFile.FieldType.object "TwinInk$Form"))) ∈ lw_all := lw_g (lw_at lw_m4 165 rfl) rfl
theorem q1020 : (Jvm.Cond.classLink "TwinInk$Reader" (149 : Nat) "TwinInk$Number") ∈ lw_all := lw_g (lw_at lw_m4 166 rfl) rfl
theorem q1022 : (Jvm.Cond.methodLink "TwinInk$Reader" (153 : Nat) ({ cls := "TwinInk$Number", name := "<init>", desc := "(I)V" } : Jvm.MethodName)) ∈ lw_all := lw_g (lw_at lw_m4 168 rfl) rfl
theorem q1030 : (Jvm.Cond.classLink "TwinInk$Reader" (166 : Nat) "TwinInk$Value") ∈ lw_all := lw_g (lw_at lw_m4 176 rfl) rfl
theorem q1032 : (Jvm.Cond.methodLink "TwinInk$Reader" (168 : Nat) ({ cls := "TwinInk$Value", name := "<init>", desc := "(I)V" } : Jvm.MethodName)) ∈ lw_all := lw_g (lw_at lw_m4 178 rfl) rfl
theorem q1040 : (Jvm.Cond.methodLink "TwinInk$Reader" (174 : Nat) ({ cls := "TwinInk$Chain", name := "<init>", desc := "(LTwinInk$Form;)V" } : Jvm.MethodName)) ∈ lw_all := lw_g (lw_at lw_m4 186 rfl) rfl
theorem q1083 : (Jvm.Cond.methodLink "TwinInk$Reader" (177 : Nat) ({ cls := "TwinInk$Reader", name := "sign", desc := "()C" } : Jvm.MethodName)) ∈ lw_all := lw_g (lw_at lw_m4 229 rfl) rfl
theorem q1084 : (Jvm.Cond.privateMethod ({ cls := "TwinInk$Reader", name := "sign", desc := "()C" } : Jvm.MethodName)) ∈ lw_tbl := lw_at lw_m4 230 rfl
theorem q1085 : (Jvm.Cond.instanceMethod ({ cls := "TwinInk$Reader", name := "sign", desc := "()C" } : Jvm.MethodName)) ∈ lw_all := lw_g (lw_at lw_m4 231 rfl) rfl
theorem q1086 : (Jvm.Cond.code ({ cls := "TwinInk$Reader", name := "sign", desc := "()C" } : Jvm.MethodName) prog_7_method_15_code (2 : Nat) (Option.some Jvm.ClassFile.FieldType.char)) ∈ lw_all := lw_g (lw_at lw_m4 232 rfl) rfl
theorem q1087 : (Jvm.Cond.methodLink "TwinInk$Reader" (181 : Nat) ({ cls := "TwinInk$Chain", name := "add", desc := "(CLTwinInk$Form;)V" } : Jvm.MethodName)) ∈ lw_all := lw_g (lw_at lw_m4 233 rfl) rfl
theorem q1151 : (Jvm.Cond.methodLink "TwinInk$Reader" (185 : Nat) ({ cls := "TwinInk$Chain", name := "plain", desc := "()LTwinInk$Form;" } : Jvm.MethodName)) ∈ lw_all := lw_g (lw_at lw_m5 57 rfl) rfl
theorem q1155 : (Jvm.Cond.classLink "TwinInk$Reader" (197 : Nat) "TwinInk$Not") ∈ lw_all := lw_g (lw_at lw_m5 61 rfl) rfl
theorem q1157 : (Jvm.Cond.methodLink "TwinInk$Reader" (199 : Nat) ({ cls := "TwinInk$Not", name := "<init>", desc := "(LTwinInk$Form;)V" } : Jvm.MethodName)) ∈ lw_all := lw_g (lw_at lw_m5 63 rfl) rfl
theorem q1165 : (Jvm.Cond.stringRef "TwinInk$Reader" (202 : Nat) "and") ∈ lw_tbl := lw_at lw_m5 71 rfl
theorem q1166 : (Jvm.Cond.methodLink "TwinInk$Reader" (204 : Nat) ({ cls := "TwinInk$Reader", name := "passes", desc := "(Ljava/lang/String;)Z" } : Jvm.MethodName)) ∈ lw_all := lw_g (lw_at lw_m5 72 rfl) rfl
theorem q1167 : (Jvm.Cond.privateMethod ({ cls := "TwinInk$Reader", name := "passes", desc := "(Ljava/lang/String;)Z" } : Jvm.MethodName)) ∈ lw_tbl := lw_at lw_m5 73 rfl
theorem q1168 : (Jvm.Cond.instanceMethod ({ cls := "TwinInk$Reader", name := "passes", desc := "(Ljava/lang/String;)Z" } : Jvm.MethodName)) ∈ lw_all := lw_g (lw_at lw_m5 74 rfl) rfl
theorem q1169 : (Jvm.Cond.code ({ cls := "TwinInk$Reader", name := "passes", desc := "(Ljava/lang/String;)Z" } : Jvm.MethodName) prog_7_method_9_code (3 : Nat) (Option.some Jvm.ClassFile.FieldType.boolean)) ∈ lw_all := lw_g (lw_at lw_m5 75 rfl) rfl
theorem q1170 : (Jvm.Cond.stringRef "TwinInk$Reader" (209 : Nat) "or") ∈ lw_tbl := lw_at lw_m5 76 rfl
theorem q1171 : (Jvm.Cond.methodLink "TwinInk$Reader" (272 : Nat) ({ cls := "TwinInk$Reader", name := "sheet", desc := "()V" } : Jvm.MethodName)) ∈ lw_all := lw_g (lw_at lw_m5 77 rfl) rfl
theorem q1172 : (Jvm.Cond.privateMethod ({ cls := "TwinInk$Reader", name := "sheet", desc := "()V" } : Jvm.MethodName)) ∈ lw_tbl := lw_at lw_m5 78 rfl
theorem q1173 : (Jvm.Cond.instanceMethod ({ cls := "TwinInk$Reader", name := "sheet", desc := "()V" } : Jvm.MethodName)) ∈ lw_all := lw_g (lw_at lw_m5 79 rfl) rfl
theorem q1174 : (Jvm.Cond.code ({ cls := "TwinInk$Reader", name := "sheet", desc := "()V" } : Jvm.MethodName) prog_7_method_21_code (2 : Nat) (Option.none : Option Jvm.ClassFile.FieldType)) ∈ lw_all := lw_g (lw_at lw_m5 80 rfl) rfl
theorem q1175 : (Jvm.Cond.stringRef "TwinInk$Reader" (274 : Nat) "clerk") ∈ lw_tbl := lw_at lw_m5 81 rfl
theorem q1176 : (Jvm.Cond.methodLink "TwinInk$Reader" (276 : Nat) ({ cls := "TwinInk$Reader", name := "clerk", desc := "()V" } : Jvm.MethodName)) ∈ lw_all := lw_g (lw_at lw_m5 82 rfl) rfl
theorem q1177 : (Jvm.Cond.privateMethod ({ cls := "TwinInk$Reader", name := "clerk", desc := "()V" } : Jvm.MethodName)) ∈ lw_tbl := lw_at lw_m5 83 rfl
theorem q1178 : (Jvm.Cond.instanceMethod ({ cls := "TwinInk$Reader", name := "clerk", desc := "()V" } : Jvm.MethodName)) ∈ lw_all := lw_g (lw_at lw_m5 84 rfl) rfl
theorem q1179 : (Jvm.Cond.code ({ cls := "TwinInk$Reader", name := "clerk", desc := "()V" } : Jvm.MethodName) prog_7_method_22_code (2 : Nat) (Option.none : Option Jvm.ClassFile.FieldType)) ∈ lw_all := lw_g (lw_at lw_m5 85 rfl) rfl
theorem q1180 : (Jvm.Cond.methodLink "TwinInk$Reader" (219 : Nat) ({ cls := "TwinInk$Office", name := "clerks", desc := "()I" } : Jvm.MethodName)) ∈ lw_all := lw_g (lw_at lw_m5 86 rfl) rfl
theorem q1181 : (Jvm.Cond.classLink "TwinInk$Reader" (221 : Nat) "java/util/ArrayList") ∈ lw_all := lw_g (lw_at lw_m5 87 rfl) rfl
theorem q1182 : (Jvm.Cond.methodLink "TwinInk$Reader" (223 : Nat) ({ cls := "java/util/ArrayList", name := "<init>", desc := "()V" } : Jvm.MethodName)) ∈ lw_all := lw_g (lw_at lw_m5 88 rfl) rfl
theorem q1183 : (Jvm.Cond.interfaceEntry "TwinInk$Reader" (224 : Nat)) ∈ lw_tbl := lw_at lw_m5 89 rfl
theorem q1184 : (Jvm.Cond.methodLink "TwinInk$Reader" (224 : Nat) ({ cls := "java/util/List", name := "size", desc := "()I" } : Jvm.MethodName)) ∈ lw_all := lw_g (lw_at lw_m5 90 rfl) rfl
theorem q1185 : (Jvm.Cond.methodLink "TwinInk$Reader" (228 : Nat) ({ cls := "java/lang/Integer", name := "valueOf", desc := "(I)Ljava/lang/Integer;" } : Jvm.MethodName)) ∈ lw_all := lw_g (lw_at lw_m5 91 rfl) rfl
theorem q1205 : (Jvm.Cond.interfaceEntry "TwinInk$Reader" (234 : Nat)) ∈ lw_tbl := lw_at lw_m5 111 rfl
theorem q1206 : (Jvm.Cond.methodLink "TwinInk$Reader" (234 : Nat) ({ cls := "java/util/List", name := "add", desc := "(Ljava/lang/Object;)Z" } : Jvm.MethodName)) ∈ lw_all := lw_g (lw_at lw_m5 112 rfl) rfl
theorem q1207 : (Jvm.Cond.stringRef "TwinInk$Reader" (278 : Nat) "word") ∈ lw_tbl := lw_at lw_m5 113 rfl
theorem q1208 : (Jvm.Cond.methodLink "TwinInk$Reader" (280 : Nat) ({ cls := "TwinInk$Reader", name := "word", desc := "()V" } : Jvm.MethodName)) ∈ lw_all := lw_g (lw_at lw_m5 114 rfl) rfl
theorem q1209 : (Jvm.Cond.privateMethod ({ cls := "TwinInk$Reader", name := "word", desc := "()V" } : Jvm.MethodName)) ∈ lw_tbl := lw_at lw_m5 115 rfl
theorem q1210 : (Jvm.Cond.instanceMethod ({ cls := "TwinInk$Reader", name := "word", desc := "()V" } : Jvm.MethodName)) ∈ lw_all := lw_g (lw_at lw_m5 116 rfl) rfl
theorem q1211 : (Jvm.Cond.code ({ cls := "TwinInk$Reader", name := "word", desc := "()V" } : Jvm.MethodName) prog_7_method_24_code (3 : Nat) (Option.none : Option Jvm.ClassFile.FieldType)) ∈ lw_all := lw_g (lw_at lw_m5 117 rfl) rfl
theorem q1212 : (Jvm.Cond.methodLink "TwinInk$Reader" (249 : Nat) ({ cls := "TwinInk$Reader", name := "sheetNow", desc := "()I" } : Jvm.MethodName)) ∈ lw_all := lw_g (lw_at lw_m5 118 rfl) rfl
theorem q1213 : (Jvm.Cond.privateMethod ({ cls := "TwinInk$Reader", name := "sheetNow", desc := "()I" } : Jvm.MethodName)) ∈ lw_tbl := lw_at lw_m5 119 rfl
theorem q1214 : (Jvm.Cond.instanceMethod ({ cls := "TwinInk$Reader", name := "sheetNow", desc := "()I" } : Jvm.MethodName)) ∈ lw_all := lw_g (lw_at lw_m5 120 rfl) rfl
theorem q1215 : (Jvm.Cond.code ({ cls := "TwinInk$Reader", name := "sheetNow", desc := "()I" } : Jvm.MethodName) prog_7_method_13_code (2 : Nat) (Option.some Jvm.ClassFile.FieldType.int)) ∈ lw_all := lw_g (lw_at lw_m5 121 rfl) rfl
theorem q1216 : (Jvm.Cond.methodLink "TwinInk$Reader" (252 : Nat) ({ cls := "TwinInk$Reader", name := "hasWord", desc := "(II)Z" } : Jvm.MethodName)) ∈ lw_all := lw_g (lw_at lw_m5 122 rfl) rfl
theorem q1217 : (Jvm.Cond.privateMethod ({ cls := "TwinInk$Reader", name := "hasWord", desc := "(II)Z" } : Jvm.MethodName)) ∈ lw_tbl := lw_at lw_m5 123 rfl
theorem q1218 : (Jvm.Cond.instanceMethod ({ cls := "TwinInk$Reader", name := "hasWord", desc := "(II)Z" } : Jvm.MethodName)) ∈ lw_all := lw_g (lw_at lw_m5 124 rfl) rfl
theorem q1219 : (Jvm.Cond.code ({ cls := "TwinInk$Reader", name := "hasWord", desc := "(II)Z" } : Jvm.MethodName) prog_7_method_23_code (4 : Nat) (Option.some Jvm.ClassFile.FieldType.boolean)) ∈ lw_all := lw_g (lw_at lw_m5 125 rfl) rfl
theorem q1220 : (Jvm.Cond.interfaceEntry "TwinInk$Reader" (244 : Nat)) ∈ lw_tbl := lw_at lw_m5 126 rfl
theorem q1221 : (Jvm.Cond.methodLink "TwinInk$Reader" (244 : Nat) ({ cls := "java/util/List", name := "get", desc := "(I)Ljava/lang/Object;" } : Jvm.MethodName)) ∈ lw_all := lw_g (lw_at lw_m5 127 rfl) rfl
theorem q1222 : (Jvm.Cond.classLink "TwinInk$Reader" (248 : Nat) "[I") ∈ lw_all := lw_g (lw_at lw_m5 128 rfl) rfl
theorem q2363 : (Jvm.Cond.castable "TwinInk$Reader" "java/lang/Object") ∈ lw_tbl := lw_at lw_m10 69 rfl
theorem in_X5 : ∀ w ∈ wsX50, w ∈ lw_all := lw_in wsX50 [798, 800, 802, 804, 806, 808, 810, 812, 814, 816, 818, 820, 822, 824] (by decide +kernel) (by decide +kernel)

/-! TwinInk$Wrong -/
set_option maxRecDepth 100000
def RX6 : String := "TwinInk$Wrong"
def TX6 : u_T := fun k => match k with
  | 0 => ("java/lang/Throwable", "cause", "Ljava/lang/Throwable;", false)
  | 1 => ("java/lang/Throwable", "stackTrace", "[Ljava/lang/StackTraceElement;", false)
  | 2 => ("java/lang/Throwable", "suppressedExceptions", "Ljava/util/List;", false)
  | 3 => ("java/lang/Throwable", "detailMessage", "Ljava/lang/String;", false)
  | 4 => ("java/lang/Throwable", "backtrace", "Ljava/lang/Object;", false)
  | 5 => ("java/lang/Throwable", "depth", "I", false)
  | _ => ("TwinInk$Wrong", "kind", "I", true)
def tyX6 : Nat → FieldType := fun k => match k with
  | 0 => .object "java/lang/Throwable"
  | 1 => .array (.object "java/lang/StackTraceElement")
  | 2 => .object "java/util/List"
  | 3 => .object "java/lang/String"
  | 4 => .object "java/lang/Object"
  | 5 => .int
  | _ => .int
abbrev wsX60 : List Cond := u_ws RX6 TX6 7
theorem nmX6 : ∀ a, a < 7 → ∀ b, b < 7 → a ≠ b → (TX6 a).2.1 ≠ (TX6 b).2.1 := by decide +kernel
theorem tyX6_ok : ∀ k, k < 7 → parseFieldDescriptor (TX6 k).2.2.1 = some (tyX6 k) := by decide +kernel
abbrev cX6_init : ByteArray := prog_10_method_1_code
def yX6_init : MethodName := ⟨RX6, "<init>", "(I)V"⟩
def dkwX6_init_0 : List UInt8 := [42, 1, 1, 3, 3, 183, 0, 1, 42, 27, 181, 0, 7, 177]
abbrev dktX6_init_0 : List UInt8 := dkwX6_init_0 ++ []
theorem dksX6_init_0 : cX6_init.data.toList.drop 0 = dktX6_init_0 := by decide +kernel
theorem dX6_init_0 : decode cX6_init 0 = .ok (.aload_n 0, 1) := dk_42 (dk_at dksX6_init_0 0 rfl rfl)
theorem dX6_init_1 : decode cX6_init 1 = .ok (.aconst_null, 1) := dk_1 (dk_at dksX6_init_0 1 rfl rfl)
theorem dX6_init_2 : decode cX6_init 2 = .ok (.aconst_null, 1) := dk_1 (dk_at dksX6_init_0 2 rfl rfl)
theorem dX6_init_3 : decode cX6_init 3 = .ok (.iconst 0, 1) := dk_3 (dk_at dksX6_init_0 3 rfl rfl)
theorem dX6_init_4 : decode cX6_init 4 = .ok (.iconst 0, 1) := dk_3 (dk_at dksX6_init_0 4 rfl rfl)
theorem dX6_init_5 : decode cX6_init 5 = .ok (.invokespecial 1, 3) := dk_183 0 1 (dk_at dksX6_init_0 5 rfl rfl)
theorem dX6_init_8 : decode cX6_init 8 = .ok (.aload_n 0, 1) := dk_42 (dk_at dksX6_init_0 8 rfl rfl)
theorem dX6_init_9 : decode cX6_init 9 = .ok (.iload_n 1, 1) := dk_27 (dk_at dksX6_init_0 9 rfl rfl)
theorem dX6_init_10 : decode cX6_init 10 = .ok (.putfield 7, 3) := dk_181 0 7 (dk_at dksX6_init_0 10 rfl rfl)
theorem dX6_init_13 : decode cX6_init 13 = .ok (.return_, 1) := dk_177 (dk_at dksX6_init_0 13 rfl rfl)
theorem q153 : (Jvm.Cond.initialized "TwinInk$Wrong") ∈ lw_all := lw_g (lw_at lw_m1 19 rfl) rfl
theorem q400 : (Jvm.Cond.selects "TwinInk$Wrong" ({ cls := "java/lang/Object", name := "getClass", desc := "()Ljava/lang/Class;" } : Jvm.MethodName) ({ cls := "java/lang/Object", name := "getClass", desc := "()Ljava/lang/Class;" } : Jvm.MethodName)) ∈ lw_all := lw_g (lw_at lw_m2 26 rfl) rfl
theorem q727 : (Jvm.Cond.selects "TwinInk$Wrong" ({ cls := "java/lang/Throwable", name := "fillInStackTrace", desc := "()Ljava/lang/Throwable;" } : Jvm.MethodName) ({ cls := "java/lang/Throwable", name := "fillInStackTrace", desc := "()Ljava/lang/Throwable;" } : Jvm.MethodName)) ∈ lw_all := lw_g (lw_at lw_m3 113 rfl) rfl
theorem q958 : (Jvm.Cond.instantiable "TwinInk$Wrong" (7 : Nat)) ∈ lw_all := lw_g (lw_at lw_m4 104 rfl) rfl
theorem q959 : (Jvm.Cond.castable "TwinInk$Wrong" "TwinInk$Wrong") ∈ lw_tbl := lw_at lw_m4 105 rfl
theorem q960 : (Jvm.Cond.selects "TwinInk$Wrong" ({ cls := "java/lang/Throwable", name := "fillInStackTrace", desc := "(I)Ljava/lang/Throwable;" } : Jvm.MethodName) ({ cls := "java/lang/Throwable", name := "fillInStackTrace", desc := "(I)Ljava/lang/Throwable;" } : Jvm.MethodName)) ∈ lw_all := lw_g (lw_at lw_m4 106 rfl) rfl
theorem q961 : (Jvm.Cond.lays "TwinInk$Wrong" "java/lang/Throwable" "cause" "Ljava/lang/Throwable;") ∈ lw_all := lw_g (lw_at lw_m4 107 rfl) rfl
theorem q962 : (Jvm.Cond.lays "TwinInk$Wrong" "java/lang/Throwable" "stackTrace" "[Ljava/lang/StackTraceElement;") ∈ lw_all := lw_g (lw_at lw_m4 108 rfl) rfl
theorem q963 : (Jvm.Cond.lays "TwinInk$Wrong" "java/lang/Throwable" "suppressedExceptions" "Ljava/util/List;") ∈ lw_all := lw_g (lw_at lw_m4 109 rfl) rfl
theorem q964 : (Jvm.Cond.lays "TwinInk$Wrong" "java/lang/Throwable" "detailMessage" "Ljava/lang/String;") ∈ lw_all := lw_g (lw_at lw_m4 110 rfl) rfl
theorem q965 : (Jvm.Cond.lays "TwinInk$Wrong" "java/lang/Throwable" "backtrace" "Ljava/lang/Object;") ∈ lw_all := lw_g (lw_at lw_m4 111 rfl) rfl
theorem q967 : (Jvm.Cond.instanceMethod ({ cls := "TwinInk$Wrong", name := "<init>", desc := "(I)V" } : Jvm.MethodName)) ∈ lw_all := lw_g (lw_at lw_m4 113 rfl) rfl
theorem q968 : (Jvm.Cond.code ({ cls := "TwinInk$Wrong", name := "<init>", desc := "(I)V" } : Jvm.MethodName) prog_10_method_1_code (2 : Nat) (Option.none : Option Jvm.ClassFile.FieldType)) ∈ lw_all := lw_g (lw_at lw_m4 114 rfl) rfl
theorem q969 : (Jvm.Cond.methodLink "TwinInk$Wrong" (1 : Nat) ({ cls := "java/lang/Exception", name := "<init>", desc := "(Ljava/lang/String;Ljava/lang/Throwable;ZZ)V" } : Jvm.MethodName)) ∈ lw_all := lw_g (lw_at lw_m4 115 rfl) rfl
theorem q975 : (Jvm.Cond.fieldLink "TwinInk$Wrong" (7 : Nat) "TwinInk$Wrong" "kind" "I") ∈ lw_all := lw_g (lw_at lw_m4 121 rfl) rfl
theorem q977 : (Jvm.Cond.laysFinal "TwinInk$Wrong" "TwinInk$Wrong" "kind" "I") ∈ lw_all := lw_g (lw_at lw_m4 123 rfl) rfl
theorem q978 : (Jvm.Cond.soleField "TwinInk$Wrong" "kind") ∈ lw_all := lw_g (lw_at lw_m4 124 rfl) rfl
theorem q979 : (Jvm.Cond.lays "TwinInk$Wrong" "java/lang/Throwable" "depth" "I") ∈ lw_all := lw_g (lw_at lw_m4 125 rfl) rfl
theorem q980 : (Jvm.Cond.superclass "TwinInk$Wrong" "java/lang/Exception") ∈ lw_all := lw_g (lw_at lw_m4 126 rfl) rfl
theorem q2364 : (Jvm.Cond.castable "TwinInk$Wrong" "java/lang/Object") ∈ lw_tbl := lw_at lw_m10 70 rfl
theorem in_X6 : ∀ w ∈ wsX60, w ∈ lw_all := lw_in wsX60 [961, 962, 963, 964, 965, 979, 977] (by decide +kernel) (by decide +kernel)

/-! TwinInk$Chain -/
set_option maxRecDepth 100000
def RX7 : String := "TwinInk$Chain"
def TX7 : u_T := fun k => match k with
  | 0 => ("TwinInk$Chain", "forms", "Ljava/util/List;", true)
  | _ => ("TwinInk$Chain", "signs", "Ljava/lang/StringBuilder;", true)
def tyX7 : Nat → FieldType := fun k => match k with
  | 0 => .object "java/util/List"
  | _ => .object "java/lang/StringBuilder"
abbrev wsX70 : List Cond := u_ws RX7 TX7 2
theorem nmX7 : ∀ a, a < 2 → ∀ b, b < 2 → a ≠ b → (TX7 a).2.1 ≠ (TX7 b).2.1 := by decide +kernel
theorem tyX7_ok : ∀ k, k < 2 → parseFieldDescriptor (TX7 k).2.2.1 = some (tyX7 k) := by decide +kernel
abbrev cX7_of : ByteArray := prog_2_method_4_code
def yX7_of : MethodName := ⟨RX7, "of", "([I)I"⟩
def dkwX7_of_3 : List UInt8 := [132, 3, 1, 167, 255, 206, 28, 172]
abbrev dktX7_of_3 : List UInt8 := dkwX7_of_3 ++ []
def dkwX7_of_2 : List UInt8 := [180, 0, 10, 29, 185, 0, 37, 2, 0, 192, 0, 41, 43, 185, 0, 43, 2, 0, 184, 0, 51, 61]
abbrev dktX7_of_2 : List UInt8 := dkwX7_of_2 ++ dktX7_of_3
def dkwX7_of_1 : List UInt8 := [180, 0, 10, 185, 0, 33, 1, 0, 162, 0, 43, 42, 180, 0, 19, 29, 4, 100, 182, 0, 47, 28, 42]
abbrev dktX7_of_1 : List UInt8 := dkwX7_of_1 ++ dktX7_of_2
def dkwX7_of_0 : List UInt8 := [42, 180, 0, 10, 3, 185, 0, 37, 2, 0, 192, 0, 41, 43, 185, 0, 43, 2, 0, 61, 4, 62, 29, 42]
abbrev dktX7_of_0 : List UInt8 := dkwX7_of_0 ++ dktX7_of_1
theorem dksX7_of_0 : cX7_of.data.toList.drop 0 = dktX7_of_0 := by decide +kernel
theorem dksX7_of_1 : cX7_of.data.toList.drop 24 = dktX7_of_1 := dk_seg dksX7_of_0 24 rfl rfl
theorem dksX7_of_2 : cX7_of.data.toList.drop 47 = dktX7_of_2 := dk_seg dksX7_of_1 23 rfl rfl
theorem dksX7_of_3 : cX7_of.data.toList.drop 69 = dktX7_of_3 := dk_seg dksX7_of_2 22 rfl rfl
theorem dX7_of_0 : decode cX7_of 0 = .ok (.aload_n 0, 1) := dk_42 (dk_at dksX7_of_0 0 rfl rfl)
theorem dX7_of_1 : decode cX7_of 1 = .ok (.getfield 10, 3) := dk_180 0 10 (dk_at dksX7_of_0 1 rfl rfl)
theorem dX7_of_4 : decode cX7_of 4 = .ok (.iconst 0, 1) := dk_3 (dk_at dksX7_of_0 4 rfl rfl)
theorem dX7_of_5 : decode cX7_of 5 = .ok (.invokeinterface 37 2, 5) := by decide +kernel
theorem dX7_of_10 : decode cX7_of 10 = .ok (.checkcast 41, 3) := dk_192 0 41 (dk_at dksX7_of_0 10 rfl rfl)
theorem dX7_of_13 : decode cX7_of 13 = .ok (.aload_n 1, 1) := dk_43 (dk_at dksX7_of_0 13 rfl rfl)
theorem dX7_of_14 : decode cX7_of 14 = .ok (.invokeinterface 43 2, 5) := by decide +kernel
theorem dX7_of_19 : decode cX7_of 19 = .ok (.istore_n 2, 1) := dk_61 (dk_at dksX7_of_0 19 rfl rfl)
theorem dX7_of_20 : decode cX7_of 20 = .ok (.iconst 1, 1) := dk_4 (dk_at dksX7_of_0 20 rfl rfl)
theorem dX7_of_21 : decode cX7_of 21 = .ok (.istore_n 3, 1) := dk_62 (dk_at dksX7_of_0 21 rfl rfl)
theorem dX7_of_22 : decode cX7_of 22 = .ok (.iload_n 3, 1) := dk_29 (dk_at dksX7_of_0 22 rfl rfl)
theorem dX7_of_23 : decode cX7_of 23 = .ok (.aload_n 0, 1) := dk_42 (dk_at dksX7_of_0 23 rfl rfl)
theorem dX7_of_24 : decode cX7_of 24 = .ok (.getfield 10, 3) := dk_180 0 10 (dk_at dksX7_of_1 0 rfl rfl)
theorem dX7_of_27 : decode cX7_of 27 = .ok (.invokeinterface 33 1, 5) := by decide +kernel
theorem dX7_of_32 : decode cX7_of 32 = .ok (.if_icmp .ge 43, 3) := dk_162 0 43 (dk_at dksX7_of_1 8 rfl rfl)
theorem dX7_of_35 : decode cX7_of 35 = .ok (.aload_n 0, 1) := dk_42 (dk_at dksX7_of_1 11 rfl rfl)
theorem dX7_of_36 : decode cX7_of 36 = .ok (.getfield 19, 3) := dk_180 0 19 (dk_at dksX7_of_1 12 rfl rfl)
theorem dX7_of_39 : decode cX7_of 39 = .ok (.iload_n 3, 1) := dk_29 (dk_at dksX7_of_1 15 rfl rfl)
theorem dX7_of_40 : decode cX7_of 40 = .ok (.iconst 1, 1) := dk_4 (dk_at dksX7_of_1 16 rfl rfl)
theorem dX7_of_41 : decode cX7_of 41 = .ok (.isub, 1) := dk_100 (dk_at dksX7_of_1 17 rfl rfl)
theorem dX7_of_42 : decode cX7_of 42 = .ok (.invokevirtual 47, 3) := dk_182 0 47 (dk_at dksX7_of_1 18 rfl rfl)
theorem dX7_of_45 : decode cX7_of 45 = .ok (.iload_n 2, 1) := dk_28 (dk_at dksX7_of_1 21 rfl rfl)
theorem dX7_of_46 : decode cX7_of 46 = .ok (.aload_n 0, 1) := dk_42 (dk_at dksX7_of_1 22 rfl rfl)
theorem dX7_of_47 : decode cX7_of 47 = .ok (.getfield 10, 3) := dk_180 0 10 (dk_at dksX7_of_2 0 rfl rfl)
theorem dX7_of_50 : decode cX7_of 50 = .ok (.iload_n 3, 1) := dk_29 (dk_at dksX7_of_2 3 rfl rfl)
theorem dX7_of_51 : decode cX7_of 51 = .ok (.invokeinterface 37 2, 5) := by decide +kernel
theorem dX7_of_56 : decode cX7_of 56 = .ok (.checkcast 41, 3) := dk_192 0 41 (dk_at dksX7_of_2 9 rfl rfl)
theorem dX7_of_59 : decode cX7_of 59 = .ok (.aload_n 1, 1) := dk_43 (dk_at dksX7_of_2 12 rfl rfl)
theorem dX7_of_60 : decode cX7_of 60 = .ok (.invokeinterface 43 2, 5) := by decide +kernel
theorem dX7_of_65 : decode cX7_of 65 = .ok (.invokestatic 51, 3) := dk_184 0 51 (dk_at dksX7_of_2 18 rfl rfl)
theorem dX7_of_68 : decode cX7_of 68 = .ok (.istore_n 2, 1) := dk_61 (dk_at dksX7_of_2 21 rfl rfl)
theorem dX7_of_69 : decode cX7_of 69 = .ok (.iinc 3 1, 3) := dk_132 3 1 (dk_at dksX7_of_3 0 rfl rfl)
theorem dX7_of_72 : decode cX7_of 72 = .ok (.goto (-50), 3) := dk_167 255 206 (dk_at dksX7_of_3 3 rfl rfl)
theorem dX7_of_75 : decode cX7_of 75 = .ok (.iload_n 2, 1) := dk_28 (dk_at dksX7_of_3 6 rfl rfl)
theorem dX7_of_76 : decode cX7_of 76 = .ok (.ireturn, 1) := dk_172 (dk_at dksX7_of_3 7 rfl rfl)
abbrev cX7_by : ByteArray := prog_2_method_5_code
def yX7_by : MethodName := ⟨RX7, "by", "(CII)I"⟩
def dkwX7_by_5 : List UInt8 := [167, 0, 4, 3, 172]
abbrev dktX7_by_5 : List UInt8 := dkwX7_by_5 ++ []
def dkwX7_by_4 : List UInt8 := [153, 0, 11, 28, 153, 0, 7, 4, 167, 0, 4, 3, 172, 27, 154, 0, 7, 28, 153, 0, 7, 4]
abbrev dktX7_by_4 : List UInt8 := dkwX7_by_4 ++ dktX7_by_5
def dkwX7_by_3 : List UInt8 := [27, 28, 162, 0, 7, 4, 167, 0, 4, 3, 172, 27, 28, 160, 0, 7, 4, 167, 0, 4, 3, 172, 27]
abbrev dktX7_by_3 : List UInt8 := dkwX7_by_3 ++ dktX7_by_4
def dkwX7_by_2 : List UInt8 := [27, 28, 96, 172, 27, 28, 100, 172, 27, 28, 104, 172, 28, 154, 0, 7, 3, 167, 0, 6, 27, 28, 108, 172]
abbrev dktX7_by_2 : List UInt8 := dkwX7_by_2 ++ dktX7_by_3
def dkwX7_by_1 : List UInt8 := [170, 0, 0, 0, 0, 0, 171, 0, 0, 0, 38, 0, 0, 0, 61, 0, 0, 0, 157, 0, 0, 0, 171, 0, 0, 0, 171, 0, 0, 0, 171, 0, 0, 0, 119, 0, 0, 0, 111, 0, 0, 0, 171, 0, 0, 0, 115, 0, 0, 0, 171, 0, 0, 0, 123, 0, 0, 0, 171, 0, 0, 0, 171, 0, 0, 0, 171, 0, 0, 0, 171, 0, 0, 0, 171, 0, 0, 0, 171, 0, 0, 0, 171, 0, 0, 0, 171, 0, 0, 0, 171, 0, 0, 0, 171, 0, 0, 0, 171, 0, 0, 0, 171, 0, 0, 0, 135, 0, 0, 0, 146]
abbrev dktX7_by_1 : List UInt8 := dkwX7_by_1 ++ dktX7_by_2
def dkwX7_by_0 : List UInt8 := [26]
abbrev dktX7_by_0 : List UInt8 := dkwX7_by_0 ++ dktX7_by_1
theorem dksX7_by_0 : cX7_by.data.toList.drop 0 = dktX7_by_0 := by decide +kernel
theorem dksX7_by_1 : cX7_by.data.toList.drop 1 = dktX7_by_1 := dk_seg dksX7_by_0 1 rfl rfl
theorem dksX7_by_2 : cX7_by.data.toList.drop 112 = dktX7_by_2 := dk_seg dksX7_by_1 111 rfl rfl
theorem dksX7_by_3 : cX7_by.data.toList.drop 136 = dktX7_by_3 := dk_seg dksX7_by_2 24 rfl rfl
theorem dksX7_by_4 : cX7_by.data.toList.drop 159 = dktX7_by_4 := dk_seg dksX7_by_3 23 rfl rfl
theorem dksX7_by_5 : cX7_by.data.toList.drop 181 = dktX7_by_5 := dk_seg dksX7_by_4 22 rfl rfl
theorem dX7_by_0 : decode cX7_by 0 = .ok (.iload_n 0, 1) := dk_26 (dk_at dksX7_by_0 0 rfl rfl)
theorem dX7_by_1 : decode cX7_by 1 = .ok (.tableswitch 171 38 61 #[157, 171, 171, 171, 119, 111, 171, 115, 171, 123, 171, 171, 171, 171, 171, 171, 171, 171, 171, 171, 171, 171, 135, 146], 111) := by decide +kernel
theorem dX7_by_112 : decode cX7_by 112 = .ok (.iload_n 1, 1) := dk_27 (dk_at dksX7_by_2 0 rfl rfl)
theorem dX7_by_113 : decode cX7_by 113 = .ok (.iload_n 2, 1) := dk_28 (dk_at dksX7_by_2 1 rfl rfl)
theorem dX7_by_114 : decode cX7_by 114 = .ok (.iadd, 1) := dk_96 (dk_at dksX7_by_2 2 rfl rfl)
theorem dX7_by_115 : decode cX7_by 115 = .ok (.ireturn, 1) := dk_172 (dk_at dksX7_by_2 3 rfl rfl)
theorem dX7_by_116 : decode cX7_by 116 = .ok (.iload_n 1, 1) := dk_27 (dk_at dksX7_by_2 4 rfl rfl)
theorem dX7_by_117 : decode cX7_by 117 = .ok (.iload_n 2, 1) := dk_28 (dk_at dksX7_by_2 5 rfl rfl)
theorem dX7_by_118 : decode cX7_by 118 = .ok (.isub, 1) := dk_100 (dk_at dksX7_by_2 6 rfl rfl)
theorem dX7_by_119 : decode cX7_by 119 = .ok (.ireturn, 1) := dk_172 (dk_at dksX7_by_2 7 rfl rfl)
theorem dX7_by_120 : decode cX7_by 120 = .ok (.iload_n 1, 1) := dk_27 (dk_at dksX7_by_2 8 rfl rfl)
theorem dX7_by_121 : decode cX7_by 121 = .ok (.iload_n 2, 1) := dk_28 (dk_at dksX7_by_2 9 rfl rfl)
theorem dX7_by_122 : decode cX7_by 122 = .ok (.imul, 1) := dk_104 (dk_at dksX7_by_2 10 rfl rfl)
theorem dX7_by_123 : decode cX7_by 123 = .ok (.ireturn, 1) := dk_172 (dk_at dksX7_by_2 11 rfl rfl)
theorem dX7_by_124 : decode cX7_by 124 = .ok (.iload_n 2, 1) := dk_28 (dk_at dksX7_by_2 12 rfl rfl)
theorem dX7_by_125 : decode cX7_by 125 = .ok (.ifCond .ne 7, 3) := dk_154 0 7 (dk_at dksX7_by_2 13 rfl rfl)
theorem dX7_by_128 : decode cX7_by 128 = .ok (.iconst 0, 1) := dk_3 (dk_at dksX7_by_2 16 rfl rfl)
theorem dX7_by_129 : decode cX7_by 129 = .ok (.goto 6, 3) := dk_167 0 6 (dk_at dksX7_by_2 17 rfl rfl)
theorem dX7_by_132 : decode cX7_by 132 = .ok (.iload_n 1, 1) := dk_27 (dk_at dksX7_by_2 20 rfl rfl)
theorem dX7_by_133 : decode cX7_by 133 = .ok (.iload_n 2, 1) := dk_28 (dk_at dksX7_by_2 21 rfl rfl)
theorem dX7_by_134 : decode cX7_by 134 = .ok (.idiv, 1) := dk_108 (dk_at dksX7_by_2 22 rfl rfl)
theorem dX7_by_135 : decode cX7_by 135 = .ok (.ireturn, 1) := dk_172 (dk_at dksX7_by_2 23 rfl rfl)
theorem dX7_by_136 : decode cX7_by 136 = .ok (.iload_n 1, 1) := dk_27 (dk_at dksX7_by_3 0 rfl rfl)
theorem dX7_by_137 : decode cX7_by 137 = .ok (.iload_n 2, 1) := dk_28 (dk_at dksX7_by_3 1 rfl rfl)
theorem dX7_by_138 : decode cX7_by 138 = .ok (.if_icmp .ge 7, 3) := dk_162 0 7 (dk_at dksX7_by_3 2 rfl rfl)
theorem dX7_by_141 : decode cX7_by 141 = .ok (.iconst 1, 1) := dk_4 (dk_at dksX7_by_3 5 rfl rfl)
theorem dX7_by_142 : decode cX7_by 142 = .ok (.goto 4, 3) := dk_167 0 4 (dk_at dksX7_by_3 6 rfl rfl)
theorem dX7_by_145 : decode cX7_by 145 = .ok (.iconst 0, 1) := dk_3 (dk_at dksX7_by_3 9 rfl rfl)
theorem dX7_by_146 : decode cX7_by 146 = .ok (.ireturn, 1) := dk_172 (dk_at dksX7_by_3 10 rfl rfl)
theorem dX7_by_147 : decode cX7_by 147 = .ok (.iload_n 1, 1) := dk_27 (dk_at dksX7_by_3 11 rfl rfl)
theorem dX7_by_148 : decode cX7_by 148 = .ok (.iload_n 2, 1) := dk_28 (dk_at dksX7_by_3 12 rfl rfl)
theorem dX7_by_149 : decode cX7_by 149 = .ok (.if_icmp .ne 7, 3) := dk_160 0 7 (dk_at dksX7_by_3 13 rfl rfl)
theorem dX7_by_152 : decode cX7_by 152 = .ok (.iconst 1, 1) := dk_4 (dk_at dksX7_by_3 16 rfl rfl)
theorem dX7_by_153 : decode cX7_by 153 = .ok (.goto 4, 3) := dk_167 0 4 (dk_at dksX7_by_3 17 rfl rfl)
theorem dX7_by_156 : decode cX7_by 156 = .ok (.iconst 0, 1) := dk_3 (dk_at dksX7_by_3 20 rfl rfl)
theorem dX7_by_157 : decode cX7_by 157 = .ok (.ireturn, 1) := dk_172 (dk_at dksX7_by_3 21 rfl rfl)
theorem dX7_by_158 : decode cX7_by 158 = .ok (.iload_n 1, 1) := dk_27 (dk_at dksX7_by_3 22 rfl rfl)
theorem dX7_by_159 : decode cX7_by 159 = .ok (.ifCond .eq 11, 3) := dk_153 0 11 (dk_at dksX7_by_4 0 rfl rfl)
theorem dX7_by_162 : decode cX7_by 162 = .ok (.iload_n 2, 1) := dk_28 (dk_at dksX7_by_4 3 rfl rfl)
theorem dX7_by_163 : decode cX7_by 163 = .ok (.ifCond .eq 7, 3) := dk_153 0 7 (dk_at dksX7_by_4 4 rfl rfl)
theorem dX7_by_166 : decode cX7_by 166 = .ok (.iconst 1, 1) := dk_4 (dk_at dksX7_by_4 7 rfl rfl)
theorem dX7_by_167 : decode cX7_by 167 = .ok (.goto 4, 3) := dk_167 0 4 (dk_at dksX7_by_4 8 rfl rfl)
theorem dX7_by_170 : decode cX7_by 170 = .ok (.iconst 0, 1) := dk_3 (dk_at dksX7_by_4 11 rfl rfl)
theorem dX7_by_171 : decode cX7_by 171 = .ok (.ireturn, 1) := dk_172 (dk_at dksX7_by_4 12 rfl rfl)
theorem dX7_by_172 : decode cX7_by 172 = .ok (.iload_n 1, 1) := dk_27 (dk_at dksX7_by_4 13 rfl rfl)
theorem dX7_by_173 : decode cX7_by 173 = .ok (.ifCond .ne 7, 3) := dk_154 0 7 (dk_at dksX7_by_4 14 rfl rfl)
theorem dX7_by_176 : decode cX7_by 176 = .ok (.iload_n 2, 1) := dk_28 (dk_at dksX7_by_4 17 rfl rfl)
theorem dX7_by_177 : decode cX7_by 177 = .ok (.ifCond .eq 7, 3) := dk_153 0 7 (dk_at dksX7_by_4 18 rfl rfl)
theorem dX7_by_180 : decode cX7_by 180 = .ok (.iconst 1, 1) := dk_4 (dk_at dksX7_by_4 21 rfl rfl)
theorem dX7_by_181 : decode cX7_by 181 = .ok (.goto 4, 3) := dk_167 0 4 (dk_at dksX7_by_5 0 rfl rfl)
theorem dX7_by_184 : decode cX7_by 184 = .ok (.iconst 0, 1) := dk_3 (dk_at dksX7_by_5 3 rfl rfl)
theorem dX7_by_185 : decode cX7_by 185 = .ok (.ireturn, 1) := dk_172 (dk_at dksX7_by_5 4 rfl rfl)
abbrev cX7_init : ByteArray := prog_2_method_1_code
def yX7_init : MethodName := ⟨RX7, "<init>", "(LTwinInk$Form;)V"⟩
def dkwX7_init_1 : List UInt8 := [181, 0, 19, 42, 180, 0, 10, 43, 185, 0, 23, 2, 0, 87, 177]
abbrev dktX7_init_1 : List UInt8 := dkwX7_init_1 ++ []
def dkwX7_init_0 : List UInt8 := [42, 183, 0, 1, 42, 187, 0, 7, 89, 183, 0, 9, 181, 0, 10, 42, 187, 0, 16, 89, 183, 0, 18]
abbrev dktX7_init_0 : List UInt8 := dkwX7_init_0 ++ dktX7_init_1
theorem dksX7_init_0 : cX7_init.data.toList.drop 0 = dktX7_init_0 := by decide +kernel
theorem dksX7_init_1 : cX7_init.data.toList.drop 23 = dktX7_init_1 := dk_seg dksX7_init_0 23 rfl rfl
theorem dX7_init_0 : decode cX7_init 0 = .ok (.aload_n 0, 1) := dk_42 (dk_at dksX7_init_0 0 rfl rfl)
theorem dX7_init_1 : decode cX7_init 1 = .ok (.invokespecial 1, 3) := dk_183 0 1 (dk_at dksX7_init_0 1 rfl rfl)
theorem dX7_init_4 : decode cX7_init 4 = .ok (.aload_n 0, 1) := dk_42 (dk_at dksX7_init_0 4 rfl rfl)
theorem dX7_init_5 : decode cX7_init 5 = .ok (.new 7, 3) := dk_187 0 7 (dk_at dksX7_init_0 5 rfl rfl)
theorem dX7_init_8 : decode cX7_init 8 = .ok (.dup, 1) := dk_89 (dk_at dksX7_init_0 8 rfl rfl)
theorem dX7_init_9 : decode cX7_init 9 = .ok (.invokespecial 9, 3) := dk_183 0 9 (dk_at dksX7_init_0 9 rfl rfl)
theorem dX7_init_12 : decode cX7_init 12 = .ok (.putfield 10, 3) := dk_181 0 10 (dk_at dksX7_init_0 12 rfl rfl)
theorem dX7_init_15 : decode cX7_init 15 = .ok (.aload_n 0, 1) := dk_42 (dk_at dksX7_init_0 15 rfl rfl)
theorem dX7_init_16 : decode cX7_init 16 = .ok (.new 16, 3) := dk_187 0 16 (dk_at dksX7_init_0 16 rfl rfl)
theorem dX7_init_19 : decode cX7_init 19 = .ok (.dup, 1) := dk_89 (dk_at dksX7_init_0 19 rfl rfl)
theorem dX7_init_20 : decode cX7_init 20 = .ok (.invokespecial 18, 3) := dk_183 0 18 (dk_at dksX7_init_0 20 rfl rfl)
theorem dX7_init_23 : decode cX7_init 23 = .ok (.putfield 19, 3) := dk_181 0 19 (dk_at dksX7_init_1 0 rfl rfl)
theorem dX7_init_26 : decode cX7_init 26 = .ok (.aload_n 0, 1) := dk_42 (dk_at dksX7_init_1 3 rfl rfl)
theorem dX7_init_27 : decode cX7_init 27 = .ok (.getfield 10, 3) := dk_180 0 10 (dk_at dksX7_init_1 4 rfl rfl)
theorem dX7_init_30 : decode cX7_init 30 = .ok (.aload_n 1, 1) := dk_43 (dk_at dksX7_init_1 7 rfl rfl)
theorem dX7_init_31 : decode cX7_init 31 = .ok (.invokeinterface 23 2, 5) := by decide +kernel
theorem dX7_init_36 : decode cX7_init 36 = .ok (.pop, 1) := dk_87 (dk_at dksX7_init_1 13 rfl rfl)
theorem dX7_init_37 : decode cX7_init 37 = .ok (.return_, 1) := dk_177 (dk_at dksX7_init_1 14 rfl rfl)
abbrev cX7_add : ByteArray := prog_2_method_2_code
def yX7_add : MethodName := ⟨RX7, "add", "(CLTwinInk$Form;)V"⟩
def dkwX7_add_0 : List UInt8 := [42, 180, 0, 19, 27, 182, 0, 29, 87, 42, 180, 0, 10, 44, 185, 0, 23, 2, 0, 87, 177]
abbrev dktX7_add_0 : List UInt8 := dkwX7_add_0 ++ []
theorem dksX7_add_0 : cX7_add.data.toList.drop 0 = dktX7_add_0 := by decide +kernel
theorem dX7_add_0 : decode cX7_add 0 = .ok (.aload_n 0, 1) := dk_42 (dk_at dksX7_add_0 0 rfl rfl)
theorem dX7_add_1 : decode cX7_add 1 = .ok (.getfield 19, 3) := dk_180 0 19 (dk_at dksX7_add_0 1 rfl rfl)
theorem dX7_add_4 : decode cX7_add 4 = .ok (.iload_n 1, 1) := dk_27 (dk_at dksX7_add_0 4 rfl rfl)
theorem dX7_add_5 : decode cX7_add 5 = .ok (.invokevirtual 29, 3) := dk_182 0 29 (dk_at dksX7_add_0 5 rfl rfl)
theorem dX7_add_8 : decode cX7_add 8 = .ok (.pop, 1) := dk_87 (dk_at dksX7_add_0 8 rfl rfl)
theorem dX7_add_9 : decode cX7_add 9 = .ok (.aload_n 0, 1) := dk_42 (dk_at dksX7_add_0 9 rfl rfl)
theorem dX7_add_10 : decode cX7_add 10 = .ok (.getfield 10, 3) := dk_180 0 10 (dk_at dksX7_add_0 10 rfl rfl)
theorem dX7_add_13 : decode cX7_add 13 = .ok (.aload_n 2, 1) := dk_44 (dk_at dksX7_add_0 13 rfl rfl)
theorem dX7_add_14 : decode cX7_add 14 = .ok (.invokeinterface 23 2, 5) := by decide +kernel
theorem dX7_add_19 : decode cX7_add 19 = .ok (.pop, 1) := dk_87 (dk_at dksX7_add_0 19 rfl rfl)
theorem dX7_add_20 : decode cX7_add 20 = .ok (.return_, 1) := dk_177 (dk_at dksX7_add_0 20 rfl rfl)
abbrev cX7_plain : ByteArray := prog_2_method_3_code
def yX7_plain : MethodName := ⟨RX7, "plain", "()LTwinInk$Form;"⟩
def dkwX7_plain_1 : List UInt8 := [192, 0, 41, 167, 0, 4, 42, 176]
abbrev dktX7_plain_1 : List UInt8 := dkwX7_plain_1 ++ []
def dkwX7_plain_0 : List UInt8 := [42, 180, 0, 10, 185, 0, 33, 1, 0, 4, 160, 0, 19, 42, 180, 0, 10, 3, 185, 0, 37, 2, 0]
abbrev dktX7_plain_0 : List UInt8 := dkwX7_plain_0 ++ dktX7_plain_1
theorem dksX7_plain_0 : cX7_plain.data.toList.drop 0 = dktX7_plain_0 := by decide +kernel
theorem dksX7_plain_1 : cX7_plain.data.toList.drop 23 = dktX7_plain_1 := dk_seg dksX7_plain_0 23 rfl rfl
theorem dX7_plain_0 : decode cX7_plain 0 = .ok (.aload_n 0, 1) := dk_42 (dk_at dksX7_plain_0 0 rfl rfl)
theorem dX7_plain_1 : decode cX7_plain 1 = .ok (.getfield 10, 3) := dk_180 0 10 (dk_at dksX7_plain_0 1 rfl rfl)
theorem dX7_plain_4 : decode cX7_plain 4 = .ok (.invokeinterface 33 1, 5) := by decide +kernel
theorem dX7_plain_9 : decode cX7_plain 9 = .ok (.iconst 1, 1) := dk_4 (dk_at dksX7_plain_0 9 rfl rfl)
theorem dX7_plain_10 : decode cX7_plain 10 = .ok (.if_icmp .ne 19, 3) := dk_160 0 19 (dk_at dksX7_plain_0 10 rfl rfl)
theorem dX7_plain_13 : decode cX7_plain 13 = .ok (.aload_n 0, 1) := dk_42 (dk_at dksX7_plain_0 13 rfl rfl)
theorem dX7_plain_14 : decode cX7_plain 14 = .ok (.getfield 10, 3) := dk_180 0 10 (dk_at dksX7_plain_0 14 rfl rfl)
theorem dX7_plain_17 : decode cX7_plain 17 = .ok (.iconst 0, 1) := dk_3 (dk_at dksX7_plain_0 17 rfl rfl)
theorem dX7_plain_18 : decode cX7_plain 18 = .ok (.invokeinterface 37 2, 5) := by decide +kernel
theorem dX7_plain_23 : decode cX7_plain 23 = .ok (.checkcast 41, 3) := dk_192 0 41 (dk_at dksX7_plain_1 0 rfl rfl)
theorem dX7_plain_26 : decode cX7_plain 26 = .ok (.goto 4, 3) := dk_167 0 4 (dk_at dksX7_plain_1 3 rfl rfl)
theorem dX7_plain_29 : decode cX7_plain 29 = .ok (.aload_n 0, 1) := dk_42 (dk_at dksX7_plain_1 6 rfl rfl)
theorem dX7_plain_30 : decode cX7_plain 30 = .ok (.areturn, 1) := dk_176 (dk_at dksX7_plain_1 7 rfl rfl)
theorem q154 : (Jvm.Cond.initialized "TwinInk$Chain") ∈ lw_all := lw_g (lw_at lw_m1 20 rfl) rfl
theorem q393 : (Jvm.Cond.selects "TwinInk$Chain" ({ cls := "java/lang/Object", name := "getClass", desc := "()Ljava/lang/Class;" } : Jvm.MethodName) ({ cls := "java/lang/Object", name := "getClass", desc := "()Ljava/lang/Class;" } : Jvm.MethodName)) ∈ lw_all := lw_g (lw_at lw_m2 19 rfl) rfl
theorem q525 : (Jvm.Cond.castable "TwinInk$Chain" "TwinInk$Form") ∈ lw_tbl := lw_at lw_m2 151 rfl
theorem q526 : (Jvm.Cond.selects "TwinInk$Chain" ({ cls := "TwinInk$Form", name := "of", desc := "([I)I" } : Jvm.MethodName) ({ cls := "TwinInk$Chain", name := "of", desc := "([I)I" } : Jvm.MethodName)) ∈ lw_all := lw_g (lw_at lw_m2 152 rfl) rfl
theorem q527 : (Jvm.Cond.unhidden "TwinInk$Chain" "of" "([I)I") ∈ lw_tbl := lw_at lw_m2 153 rfl
theorem q528 : (Jvm.Cond.instanceMethod ({ cls := "TwinInk$Chain", name := "of", desc := "([I)I" } : Jvm.MethodName)) ∈ lw_all := lw_g (lw_at lw_m2 154 rfl) rfl
theorem q529 : (Jvm.Cond.publicMethod ({ cls := "TwinInk$Chain", name := "of", desc := "([I)I" } : Jvm.MethodName)) ∈ lw_tbl := lw_at lw_m2 155 rfl
theorem q530 : (Jvm.Cond.code ({ cls := "TwinInk$Chain", name := "of", desc := "([I)I" } : Jvm.MethodName) prog_2_method_4_code (4 : Nat) (Option.some Jvm.ClassFile.FieldType.int)) ∈ lw_all := lw_g (lw_at lw_m2 156 rfl) rfl
theorem q531 : (Jvm.Cond.interfaceEntry "TwinInk$Chain" (37 : Nat)) ∈ lw_tbl := lw_at lw_m2 157 rfl
theorem q532 : (Jvm.Cond.methodLink "TwinInk$Chain" (37 : Nat) ({ cls := "java/util/List", name := "get", desc := "(I)Ljava/lang/Object;" } : Jvm.MethodName)) ∈ lw_all := lw_g (lw_at lw_m2 158 rfl) rfl
theorem q533 : (Jvm.Cond.classLink "TwinInk$Chain" (41 : Nat) "TwinInk$Form") ∈ lw_all := lw_g (lw_at lw_m2 159 rfl) rfl
theorem q534 : (Jvm.Cond.interfaceEntry "TwinInk$Chain" (43 : Nat)) ∈ lw_tbl := lw_at lw_m2 160 rfl
theorem q535 : (Jvm.Cond.methodLink "TwinInk$Chain" (43 : Nat) ({ cls := "TwinInk$Form", name := "of", desc := "([I)I" } : Jvm.MethodName)) ∈ lw_all := lw_g (lw_at lw_m2 161 rfl) rfl
theorem q556 : (Jvm.Cond.interfaceEntry "TwinInk$Chain" (33 : Nat)) ∈ lw_tbl := lw_at lw_m2 182 rfl
theorem q557 : (Jvm.Cond.methodLink "TwinInk$Chain" (33 : Nat) ({ cls := "java/util/List", name := "size", desc := "()I" } : Jvm.MethodName)) ∈ lw_all := lw_g (lw_at lw_m2 183 rfl) rfl
theorem q558 : (Jvm.Cond.methodLink "TwinInk$Chain" (47 : Nat) ({ cls := "java/lang/StringBuilder", name := "charAt", desc := "(I)C" } : Jvm.MethodName)) ∈ lw_all := lw_g (lw_at lw_m2 184 rfl) rfl
theorem q585 : (Jvm.Cond.methodLink "TwinInk$Chain" (51 : Nat) ({ cls := "TwinInk$Chain", name := "by", desc := "(CII)I" } : Jvm.MethodName)) ∈ lw_all := lw_g (lw_at lw_m2 211 rfl) rfl
theorem q586 : (Jvm.Cond.static ({ cls := "TwinInk$Chain", name := "by", desc := "(CII)I" } : Jvm.MethodName)) ∈ lw_all := lw_g (lw_at lw_m2 212 rfl) rfl
theorem q587 : (Jvm.Cond.code ({ cls := "TwinInk$Chain", name := "by", desc := "(CII)I" } : Jvm.MethodName) prog_2_method_5_code (3 : Nat) (Option.some Jvm.ClassFile.FieldType.int)) ∈ lw_all := lw_g (lw_at lw_m2 213 rfl) rfl
theorem q998 : (Jvm.Cond.instantiable "TwinInk$Chain" (2 : Nat)) ∈ lw_all := lw_g (lw_at lw_m4 144 rfl) rfl
theorem q1041 : (Jvm.Cond.instanceMethod ({ cls := "TwinInk$Chain", name := "<init>", desc := "(LTwinInk$Form;)V" } : Jvm.MethodName)) ∈ lw_all := lw_g (lw_at lw_m4 187 rfl) rfl
theorem q1042 : (Jvm.Cond.code ({ cls := "TwinInk$Chain", name := "<init>", desc := "(LTwinInk$Form;)V" } : Jvm.MethodName) prog_2_method_1_code (2 : Nat) (Option.none : Option Jvm.ClassFile.FieldType)) ∈ lw_all := lw_g (lw_at lw_m4 188 rfl) rfl
theorem q1043 : (Jvm.Cond.methodLink "TwinInk$Chain" (1 : Nat) ({ cls := "java/lang/Object", name := "<init>", desc := "()V" } : Jvm.MethodName)) ∈ lw_all := lw_g (lw_at lw_m4 189 rfl) rfl
theorem q1044 : (Jvm.Cond.classLink "TwinInk$Chain" (7 : Nat) "java/util/ArrayList") ∈ lw_all := lw_g (lw_at lw_m4 190 rfl) rfl
theorem q1045 : (Jvm.Cond.methodLink "TwinInk$Chain" (9 : Nat) ({ cls := "java/util/ArrayList", name := "<init>", desc := "()V" } : Jvm.MethodName)) ∈ lw_all := lw_g (lw_at lw_m4 191 rfl) rfl
theorem q1046 : (Jvm.Cond.classLink "TwinInk$Chain" (16 : Nat) "java/lang/StringBuilder") ∈ lw_all := lw_g (lw_at lw_m4 192 rfl) rfl
theorem q1048 : (Jvm.Cond.methodLink "TwinInk$Chain" (18 : Nat) ({ cls := "java/lang/StringBuilder", name := "<init>", desc := "()V" } : Jvm.MethodName)) ∈ lw_all := lw_g (lw_at lw_m4 194 rfl) rfl
theorem q1074 : (Jvm.Cond.interfaceEntry "TwinInk$Chain" (23 : Nat)) ∈ lw_tbl := lw_at lw_m4 220 rfl
theorem q1075 : (Jvm.Cond.methodLink "TwinInk$Chain" (23 : Nat) ({ cls := "java/util/List", name := "add", desc := "(Ljava/lang/Object;)Z" } : Jvm.MethodName)) ∈ lw_all := lw_g (lw_at lw_m4 221 rfl) rfl
theorem q1076 : (Jvm.Cond.fieldLink "TwinInk$Chain" (10 : Nat) "TwinInk$Chain" "forms" "Ljava/util/List;") ∈ lw_all := lw_g (lw_at lw_m4 222 rfl) rfl
theorem q1077 : (Jvm.Cond.fieldLink "TwinInk$Chain" (19 : Nat) "TwinInk$Chain" "signs" "Ljava/lang/StringBuilder;") ∈ lw_all := lw_g (lw_at lw_m4 223 rfl) rfl
theorem q1078 : (Jvm.Cond.laysFinal "TwinInk$Chain" "TwinInk$Chain" "forms" "Ljava/util/List;") ∈ lw_all := lw_g (lw_at lw_m4 224 rfl) rfl
theorem q1079 : (Jvm.Cond.soleField "TwinInk$Chain" "forms") ∈ lw_all := lw_g (lw_at lw_m4 225 rfl) rfl
theorem q1080 : (Jvm.Cond.laysFinal "TwinInk$Chain" "TwinInk$Chain" "signs" "Ljava/lang/StringBuilder;") ∈ lw_all := lw_g (lw_at lw_m4 226 rfl) rfl
theorem q1081 : (Jvm.Cond.soleField "TwinInk$Chain" "signs") ∈ lw_all := lw_g (lw_at lw_m4 227 rfl) rfl
theorem q1082 : (Jvm.Cond.superclass "TwinInk$Chain" "java/lang/Object") ∈ lw_all := lw_g (lw_at lw_m4 228 rfl) rfl
theorem q1088 : (Jvm.Cond.instanceMethod ({ cls := "TwinInk$Chain", name := "add", desc := "(CLTwinInk$Form;)V" } : Jvm.MethodName)) ∈ lw_all := lw_g (lw_at lw_m4 234 rfl) rfl
theorem q1089 : (Jvm.Cond.selects "TwinInk$Chain" ({ cls := "TwinInk$Chain", name := "add", desc := "(CLTwinInk$Form;)V" } : Jvm.MethodName) ({ cls := "TwinInk$Chain", name := "add", desc := "(CLTwinInk$Form;)V" } : Jvm.MethodName)) ∈ lw_all := lw_g (lw_at lw_m4 235 rfl) rfl
theorem q1090 : (Jvm.Cond.code ({ cls := "TwinInk$Chain", name := "add", desc := "(CLTwinInk$Form;)V" } : Jvm.MethodName) prog_2_method_2_code (3 : Nat) (Option.none : Option Jvm.ClassFile.FieldType)) ∈ lw_all := lw_g (lw_at lw_m4 236 rfl) rfl
theorem q1091 : (Jvm.Cond.methodLink "TwinInk$Chain" (29 : Nat) ({ cls := "java/lang/StringBuilder", name := "append", desc := "(C)Ljava/lang/StringBuilder;" } : Jvm.MethodName)) ∈ lw_all := lw_g (lw_at lw_m4 237 rfl) rfl
theorem q1152 : (Jvm.Cond.instanceMethod ({ cls := "TwinInk$Chain", name := "plain", desc := "()LTwinInk$Form;" } : Jvm.MethodName)) ∈ lw_all := lw_g (lw_at lw_m5 58 rfl) rfl
theorem q1153 : (Jvm.Cond.selects "TwinInk$Chain" ({ cls := "TwinInk$Chain", name := "plain", desc := "()LTwinInk$Form;" } : Jvm.MethodName) ({ cls := "TwinInk$Chain", name := "plain", desc := "()LTwinInk$Form;" } : Jvm.MethodName)) ∈ lw_all := lw_g (lw_at lw_m5 59 rfl) rfl
theorem q1154 : (Jvm.Cond.code ({ cls := "TwinInk$Chain", name := "plain", desc := "()LTwinInk$Form;" } : Jvm.MethodName) prog_2_method_3_code (1 : Nat) (Option.some (Jvm.ClassFile.FieldType.object "TwinInk$Form"))) ∈ lw_all := lw_g (lw_at lw_m5 60 rfl) rfl
theorem q2365 : (Jvm.Cond.castable "TwinInk$Chain" "java/lang/Object") ∈ lw_tbl := lw_at lw_m10 71 rfl
theorem in_X7 : ∀ w ∈ wsX70, w ∈ lw_all := lw_in wsX70 [1078, 1080] (by decide +kernel) (by decide +kernel)

/-! TwinInk$Number -/
set_option maxRecDepth 100000
def RX8 : String := "TwinInk$Number"
def TX8 : u_T := fun k => match k with
  | _ => ("TwinInk$Number", "value", "I", true)
def tyX8 : Nat → FieldType := fun k => match k with
  | _ => .int
abbrev wsX80 : List Cond := u_ws RX8 TX8 1
theorem nmX8 : ∀ a, a < 1 → ∀ b, b < 1 → a ≠ b → (TX8 a).2.1 ≠ (TX8 b).2.1 := by decide +kernel
theorem tyX8_ok : ∀ k, k < 1 → parseFieldDescriptor (TX8 k).2.2.1 = some (tyX8 k) := by decide +kernel
abbrev cX8_of : ByteArray := prog_5_method_2_code
def yX8_of : MethodName := ⟨RX8, "of", "([I)I"⟩
theorem dX8_of_0 : decode cX8_of 0 = .ok (.aload_n 0, 1) := by decide +kernel
theorem dX8_of_1 : decode cX8_of 1 = .ok (.getfield 7, 3) := by decide +kernel
theorem dX8_of_4 : decode cX8_of 4 = .ok (.ireturn, 1) := by decide +kernel
abbrev cX8_init : ByteArray := prog_5_method_1_code
def yX8_init : MethodName := ⟨RX8, "<init>", "(I)V"⟩
def dkwX8_init_0 : List UInt8 := [42, 183, 0, 1, 42, 27, 181, 0, 7, 177]
abbrev dktX8_init_0 : List UInt8 := dkwX8_init_0 ++ []
theorem dksX8_init_0 : cX8_init.data.toList.drop 0 = dktX8_init_0 := by decide +kernel
theorem dX8_init_0 : decode cX8_init 0 = .ok (.aload_n 0, 1) := dk_42 (dk_at dksX8_init_0 0 rfl rfl)
theorem dX8_init_1 : decode cX8_init 1 = .ok (.invokespecial 1, 3) := dk_183 0 1 (dk_at dksX8_init_0 1 rfl rfl)
theorem dX8_init_4 : decode cX8_init 4 = .ok (.aload_n 0, 1) := dk_42 (dk_at dksX8_init_0 4 rfl rfl)
theorem dX8_init_5 : decode cX8_init 5 = .ok (.iload_n 1, 1) := dk_27 (dk_at dksX8_init_0 5 rfl rfl)
theorem dX8_init_6 : decode cX8_init 6 = .ok (.putfield 7, 3) := dk_181 0 7 (dk_at dksX8_init_0 6 rfl rfl)
theorem dX8_init_9 : decode cX8_init 9 = .ok (.return_, 1) := dk_177 (dk_at dksX8_init_0 9 rfl rfl)
theorem q155 : (Jvm.Cond.initialized "TwinInk$Number") ∈ lw_all := lw_g (lw_at lw_m1 21 rfl) rfl
theorem q395 : (Jvm.Cond.selects "TwinInk$Number" ({ cls := "java/lang/Object", name := "getClass", desc := "()Ljava/lang/Class;" } : Jvm.MethodName) ({ cls := "java/lang/Object", name := "getClass", desc := "()Ljava/lang/Class;" } : Jvm.MethodName)) ∈ lw_all := lw_g (lw_at lw_m2 21 rfl) rfl
theorem q544 : (Jvm.Cond.castable "TwinInk$Number" "TwinInk$Form") ∈ lw_tbl := lw_at lw_m2 170 rfl
theorem q545 : (Jvm.Cond.selects "TwinInk$Number" ({ cls := "TwinInk$Form", name := "of", desc := "([I)I" } : Jvm.MethodName) ({ cls := "TwinInk$Number", name := "of", desc := "([I)I" } : Jvm.MethodName)) ∈ lw_all := lw_g (lw_at lw_m2 171 rfl) rfl
theorem q546 : (Jvm.Cond.unhidden "TwinInk$Number" "of" "([I)I") ∈ lw_tbl := lw_at lw_m2 172 rfl
theorem q547 : (Jvm.Cond.instanceMethod ({ cls := "TwinInk$Number", name := "of", desc := "([I)I" } : Jvm.MethodName)) ∈ lw_all := lw_g (lw_at lw_m2 173 rfl) rfl
theorem q548 : (Jvm.Cond.publicMethod ({ cls := "TwinInk$Number", name := "of", desc := "([I)I" } : Jvm.MethodName)) ∈ lw_tbl := lw_at lw_m2 174 rfl
theorem q549 : (Jvm.Cond.code ({ cls := "TwinInk$Number", name := "of", desc := "([I)I" } : Jvm.MethodName) prog_5_method_2_code (2 : Nat) (Option.some Jvm.ClassFile.FieldType.int)) ∈ lw_all := lw_g (lw_at lw_m2 175 rfl) rfl
theorem q1021 : (Jvm.Cond.instantiable "TwinInk$Number" (1 : Nat)) ∈ lw_all := lw_g (lw_at lw_m4 167 rfl) rfl
theorem q1023 : (Jvm.Cond.instanceMethod ({ cls := "TwinInk$Number", name := "<init>", desc := "(I)V" } : Jvm.MethodName)) ∈ lw_all := lw_g (lw_at lw_m4 169 rfl) rfl
theorem q1024 : (Jvm.Cond.code ({ cls := "TwinInk$Number", name := "<init>", desc := "(I)V" } : Jvm.MethodName) prog_5_method_1_code (2 : Nat) (Option.none : Option Jvm.ClassFile.FieldType)) ∈ lw_all := lw_g (lw_at lw_m4 170 rfl) rfl
theorem q1025 : (Jvm.Cond.methodLink "TwinInk$Number" (1 : Nat) ({ cls := "java/lang/Object", name := "<init>", desc := "()V" } : Jvm.MethodName)) ∈ lw_all := lw_g (lw_at lw_m4 171 rfl) rfl
theorem q1026 : (Jvm.Cond.fieldLink "TwinInk$Number" (7 : Nat) "TwinInk$Number" "value" "I") ∈ lw_all := lw_g (lw_at lw_m4 172 rfl) rfl
theorem q1027 : (Jvm.Cond.laysFinal "TwinInk$Number" "TwinInk$Number" "value" "I") ∈ lw_all := lw_g (lw_at lw_m4 173 rfl) rfl
theorem q1028 : (Jvm.Cond.soleField "TwinInk$Number" "value") ∈ lw_all := lw_g (lw_at lw_m4 174 rfl) rfl
theorem q1029 : (Jvm.Cond.superclass "TwinInk$Number" "java/lang/Object") ∈ lw_all := lw_g (lw_at lw_m4 175 rfl) rfl
theorem q2366 : (Jvm.Cond.castable "TwinInk$Number" "java/lang/Object") ∈ lw_tbl := lw_at lw_m10 72 rfl
theorem in_X8 : ∀ w ∈ wsX80, w ∈ lw_all := lw_in wsX80 [1027] (by decide +kernel) (by decide +kernel)

/-! TwinInk$Value -/
set_option maxRecDepth 100000
def RX9 : String := "TwinInk$Value"
def TX9 : u_T := fun k => match k with
  | _ => ("TwinInk$Value", "which", "I", true)
def tyX9 : Nat → FieldType := fun k => match k with
  | _ => .int
abbrev wsX90 : List Cond := u_ws RX9 TX9 1
theorem nmX9 : ∀ a, a < 1 → ∀ b, b < 1 → a ≠ b → (TX9 a).2.1 ≠ (TX9 b).2.1 := by decide +kernel
theorem tyX9_ok : ∀ k, k < 1 → parseFieldDescriptor (TX9 k).2.2.1 = some (tyX9 k) := by decide +kernel
abbrev cX9_of : ByteArray := prog_9_method_2_code
def yX9_of : MethodName := ⟨RX9, "of", "([I)I"⟩
def dkwX9_of_0 : List UInt8 := [43, 42, 180, 0, 7, 46, 172]
abbrev dktX9_of_0 : List UInt8 := dkwX9_of_0 ++ []
theorem dksX9_of_0 : cX9_of.data.toList.drop 0 = dktX9_of_0 := by decide +kernel
theorem dX9_of_0 : decode cX9_of 0 = .ok (.aload_n 1, 1) := dk_43 (dk_at dksX9_of_0 0 rfl rfl)
theorem dX9_of_1 : decode cX9_of 1 = .ok (.aload_n 0, 1) := dk_42 (dk_at dksX9_of_0 1 rfl rfl)
theorem dX9_of_2 : decode cX9_of 2 = .ok (.getfield 7, 3) := dk_180 0 7 (dk_at dksX9_of_0 2 rfl rfl)
theorem dX9_of_5 : decode cX9_of 5 = .ok (.iaload, 1) := dk_46 (dk_at dksX9_of_0 5 rfl rfl)
theorem dX9_of_6 : decode cX9_of 6 = .ok (.ireturn, 1) := dk_172 (dk_at dksX9_of_0 6 rfl rfl)
abbrev cX9_init : ByteArray := prog_9_method_1_code
def yX9_init : MethodName := ⟨RX9, "<init>", "(I)V"⟩
def dkwX9_init_0 : List UInt8 := [42, 183, 0, 1, 42, 27, 181, 0, 7, 177]
abbrev dktX9_init_0 : List UInt8 := dkwX9_init_0 ++ []
theorem dksX9_init_0 : cX9_init.data.toList.drop 0 = dktX9_init_0 := by decide +kernel
theorem dX9_init_0 : decode cX9_init 0 = .ok (.aload_n 0, 1) := dk_42 (dk_at dksX9_init_0 0 rfl rfl)
theorem dX9_init_1 : decode cX9_init 1 = .ok (.invokespecial 1, 3) := dk_183 0 1 (dk_at dksX9_init_0 1 rfl rfl)
theorem dX9_init_4 : decode cX9_init 4 = .ok (.aload_n 0, 1) := dk_42 (dk_at dksX9_init_0 4 rfl rfl)
theorem dX9_init_5 : decode cX9_init 5 = .ok (.iload_n 1, 1) := dk_27 (dk_at dksX9_init_0 5 rfl rfl)
theorem dX9_init_6 : decode cX9_init 6 = .ok (.putfield 7, 3) := dk_181 0 7 (dk_at dksX9_init_0 6 rfl rfl)
theorem dX9_init_9 : decode cX9_init 9 = .ok (.return_, 1) := dk_177 (dk_at dksX9_init_0 9 rfl rfl)
theorem q156 : (Jvm.Cond.initialized "TwinInk$Value") ∈ lw_all := lw_g (lw_at lw_m1 22 rfl) rfl
theorem q399 : (Jvm.Cond.selects "TwinInk$Value" ({ cls := "java/lang/Object", name := "getClass", desc := "()Ljava/lang/Class;" } : Jvm.MethodName) ({ cls := "java/lang/Object", name := "getClass", desc := "()Ljava/lang/Class;" } : Jvm.MethodName)) ∈ lw_all := lw_g (lw_at lw_m2 25 rfl) rfl
theorem q550 : (Jvm.Cond.castable "TwinInk$Value" "TwinInk$Form") ∈ lw_tbl := lw_at lw_m2 176 rfl
theorem q551 : (Jvm.Cond.selects "TwinInk$Value" ({ cls := "TwinInk$Form", name := "of", desc := "([I)I" } : Jvm.MethodName) ({ cls := "TwinInk$Value", name := "of", desc := "([I)I" } : Jvm.MethodName)) ∈ lw_all := lw_g (lw_at lw_m2 177 rfl) rfl
theorem q552 : (Jvm.Cond.unhidden "TwinInk$Value" "of" "([I)I") ∈ lw_tbl := lw_at lw_m2 178 rfl
theorem q553 : (Jvm.Cond.instanceMethod ({ cls := "TwinInk$Value", name := "of", desc := "([I)I" } : Jvm.MethodName)) ∈ lw_all := lw_g (lw_at lw_m2 179 rfl) rfl
theorem q554 : (Jvm.Cond.publicMethod ({ cls := "TwinInk$Value", name := "of", desc := "([I)I" } : Jvm.MethodName)) ∈ lw_tbl := lw_at lw_m2 180 rfl
theorem q555 : (Jvm.Cond.code ({ cls := "TwinInk$Value", name := "of", desc := "([I)I" } : Jvm.MethodName) prog_9_method_2_code (2 : Nat) (Option.some Jvm.ClassFile.FieldType.int)) ∈ lw_all := lw_g (lw_at lw_m2 181 rfl) rfl
theorem q1031 : (Jvm.Cond.instantiable "TwinInk$Value" (1 : Nat)) ∈ lw_all := lw_g (lw_at lw_m4 177 rfl) rfl
theorem q1033 : (Jvm.Cond.instanceMethod ({ cls := "TwinInk$Value", name := "<init>", desc := "(I)V" } : Jvm.MethodName)) ∈ lw_all := lw_g (lw_at lw_m4 179 rfl) rfl
theorem q1034 : (Jvm.Cond.code ({ cls := "TwinInk$Value", name := "<init>", desc := "(I)V" } : Jvm.MethodName) prog_9_method_1_code (2 : Nat) (Option.none : Option Jvm.ClassFile.FieldType)) ∈ lw_all := lw_g (lw_at lw_m4 180 rfl) rfl
theorem q1035 : (Jvm.Cond.methodLink "TwinInk$Value" (1 : Nat) ({ cls := "java/lang/Object", name := "<init>", desc := "()V" } : Jvm.MethodName)) ∈ lw_all := lw_g (lw_at lw_m4 181 rfl) rfl
theorem q1036 : (Jvm.Cond.fieldLink "TwinInk$Value" (7 : Nat) "TwinInk$Value" "which" "I") ∈ lw_all := lw_g (lw_at lw_m4 182 rfl) rfl
theorem q1037 : (Jvm.Cond.laysFinal "TwinInk$Value" "TwinInk$Value" "which" "I") ∈ lw_all := lw_g (lw_at lw_m4 183 rfl) rfl
theorem q1038 : (Jvm.Cond.soleField "TwinInk$Value" "which") ∈ lw_all := lw_g (lw_at lw_m4 184 rfl) rfl
theorem q1039 : (Jvm.Cond.superclass "TwinInk$Value" "java/lang/Object") ∈ lw_all := lw_g (lw_at lw_m4 185 rfl) rfl
theorem q2367 : (Jvm.Cond.castable "TwinInk$Value" "java/lang/Object") ∈ lw_tbl := lw_at lw_m10 73 rfl
theorem in_X9 : ∀ w ∈ wsX90, w ∈ lw_all := lw_in wsX90 [1037] (by decide +kernel) (by decide +kernel)

