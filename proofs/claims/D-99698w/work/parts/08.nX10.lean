/-! TwinInk -/
set_option maxRecDepth 100000
def RX1 : String := "TwinInk"
def TX1 : u_T := fun k => match k with
  | 0 => ("TwinInk", "values", "[I", true)
  | 1 => ("TwinInk", "office", "LTwinInk$Office;", false)
  | 2 => ("TwinInk", "service", "LTwinInk$Service;", false)
  | 3 => ("TwinInk", "tried", "LTwinInk$Service;", true)
  | 4 => ("TwinInk", "tape", "[B", true)
  | 5 => ("TwinInk", "taped", "I", false)
  | 6 => ("TwinInk", "faultPlace", "I", false)
  | 7 => ("TwinInk", "refused", "[I", true)
  | 8 => ("TwinInk", "acts", "Ljava/util/List;", false)
  | 9 => ("TwinInk", "heard", "Ljava/util/List;", false)
  | 10 => ("TwinInk", "serviceThen", "LTwinInk$Service;", false)
  | 11 => ("TwinInk", "actsThen", "Ljava/util/List;", false)
  | 12 => ("TwinInk", "heardThen", "Ljava/util/List;", false)
  | _ => ("TwinInk", "seed", "I", false)
def tyX1 : Nat → FieldType := fun k => match k with
  | 0 => .array .int
  | 1 => .object "TwinInk$Office"
  | 2 => .object "TwinInk$Service"
  | 3 => .object "TwinInk$Service"
  | 4 => .array .byte
  | 5 => .int
  | 6 => .int
  | 7 => .array .int
  | 8 => .object "java/util/List"
  | 9 => .object "java/util/List"
  | 10 => .object "TwinInk$Service"
  | 11 => .object "java/util/List"
  | 12 => .object "java/util/List"
  | _ => .int
abbrev wsX10 : List Cond := u_ws RX1 TX1 14
set_option maxRecDepth 100000 in
theorem nmX1 : ∀ a, a < 14 → ∀ b, b < 14 → a ≠ b → (TX1 a).2.1 ≠ (TX1 b).2.1 := by decide +kernel
set_option maxRecDepth 100000 in
theorem tyX1_ok : ∀ k, k < 14 → parseFieldDescriptor (TX1 k).2.2.1 = some (tyX1 k) := by decide +kernel
abbrev cX1_init : ByteArray := prog_1_method_5_code
def yX1_init : MethodName := ⟨RX1, "<init>", "()V"⟩
def dkwX1_init_3 : List UInt8 := [89, 183, 0, 51, 181, 0, 52, 42, 187, 0, 49, 89, 183, 0, 51, 181, 0, 56, 177]
abbrev dktX1_init_3 : List UInt8 := dkwX1_init_3 ++ []
def dkwX1_init_2 : List UInt8 := [17, 2, 188, 188, 8, 181, 0, 38, 42, 2, 181, 0, 42, 42, 6, 188, 10, 181, 0, 46, 42, 187, 0, 49]
abbrev dktX1_init_2 : List UInt8 := dkwX1_init_2 ++ dktX1_init_3
def dkwX1_init_1 : List UInt8 := [187, 0, 26, 89, 42, 183, 0, 28, 181, 0, 31, 42, 187, 0, 26, 89, 42, 183, 0, 28, 181, 0, 35, 42]
abbrev dktX1_init_1 : List UInt8 := dkwX1_init_1 ++ dktX1_init_2
def dkwX1_init_0 : List UInt8 := [42, 183, 0, 10, 42, 16, 6, 188, 10, 181, 0, 13, 42, 187, 0, 19, 89, 183, 0, 21, 181, 0, 22, 42]
abbrev dktX1_init_0 : List UInt8 := dkwX1_init_0 ++ dktX1_init_1
theorem dksX1_init_0 : cX1_init.data.toList.drop 0 = dktX1_init_0 := by decide +kernel
theorem dksX1_init_1 : cX1_init.data.toList.drop 24 = dktX1_init_1 := dk_seg dksX1_init_0 24 rfl rfl
theorem dksX1_init_2 : cX1_init.data.toList.drop 48 = dktX1_init_2 := dk_seg dksX1_init_1 24 rfl rfl
theorem dksX1_init_3 : cX1_init.data.toList.drop 72 = dktX1_init_3 := dk_seg dksX1_init_2 24 rfl rfl
theorem dX1_init_0 : decode cX1_init 0 = .ok (.aload_n 0, 1) := dk_42 (dk_at dksX1_init_0 0 rfl rfl)
theorem dX1_init_1 : decode cX1_init 1 = .ok (.invokespecial 10, 3) := dk_183 0 10 (dk_at dksX1_init_0 1 rfl rfl)
theorem dX1_init_4 : decode cX1_init 4 = .ok (.aload_n 0, 1) := dk_42 (dk_at dksX1_init_0 4 rfl rfl)
theorem dX1_init_5 : decode cX1_init 5 = .ok (.bipush 6, 2) := dk_16 6 (dk_at dksX1_init_0 5 rfl rfl)
theorem dX1_init_7 : decode cX1_init 7 = .ok (.newarray .int, 2) := dk_188_10 (dk_at dksX1_init_0 7 rfl rfl)
theorem dX1_init_9 : decode cX1_init 9 = .ok (.putfield 13, 3) := dk_181 0 13 (dk_at dksX1_init_0 9 rfl rfl)
theorem dX1_init_12 : decode cX1_init 12 = .ok (.aload_n 0, 1) := dk_42 (dk_at dksX1_init_0 12 rfl rfl)
theorem dX1_init_13 : decode cX1_init 13 = .ok (.new 19, 3) := dk_187 0 19 (dk_at dksX1_init_0 13 rfl rfl)
theorem dX1_init_16 : decode cX1_init 16 = .ok (.dup, 1) := dk_89 (dk_at dksX1_init_0 16 rfl rfl)
theorem dX1_init_17 : decode cX1_init 17 = .ok (.invokespecial 21, 3) := dk_183 0 21 (dk_at dksX1_init_0 17 rfl rfl)
theorem dX1_init_20 : decode cX1_init 20 = .ok (.putfield 22, 3) := dk_181 0 22 (dk_at dksX1_init_0 20 rfl rfl)
theorem dX1_init_23 : decode cX1_init 23 = .ok (.aload_n 0, 1) := dk_42 (dk_at dksX1_init_0 23 rfl rfl)
theorem dX1_init_24 : decode cX1_init 24 = .ok (.new 26, 3) := dk_187 0 26 (dk_at dksX1_init_1 0 rfl rfl)
theorem dX1_init_27 : decode cX1_init 27 = .ok (.dup, 1) := dk_89 (dk_at dksX1_init_1 3 rfl rfl)
theorem dX1_init_28 : decode cX1_init 28 = .ok (.aload_n 0, 1) := dk_42 (dk_at dksX1_init_1 4 rfl rfl)
theorem dX1_init_29 : decode cX1_init 29 = .ok (.invokespecial 28, 3) := dk_183 0 28 (dk_at dksX1_init_1 5 rfl rfl)
theorem dX1_init_32 : decode cX1_init 32 = .ok (.putfield 31, 3) := dk_181 0 31 (dk_at dksX1_init_1 8 rfl rfl)
theorem dX1_init_35 : decode cX1_init 35 = .ok (.aload_n 0, 1) := dk_42 (dk_at dksX1_init_1 11 rfl rfl)
theorem dX1_init_36 : decode cX1_init 36 = .ok (.new 26, 3) := dk_187 0 26 (dk_at dksX1_init_1 12 rfl rfl)
theorem dX1_init_39 : decode cX1_init 39 = .ok (.dup, 1) := dk_89 (dk_at dksX1_init_1 15 rfl rfl)
theorem dX1_init_40 : decode cX1_init 40 = .ok (.aload_n 0, 1) := dk_42 (dk_at dksX1_init_1 16 rfl rfl)
theorem dX1_init_41 : decode cX1_init 41 = .ok (.invokespecial 28, 3) := dk_183 0 28 (dk_at dksX1_init_1 17 rfl rfl)
theorem dX1_init_44 : decode cX1_init 44 = .ok (.putfield 35, 3) := dk_181 0 35 (dk_at dksX1_init_1 20 rfl rfl)
theorem dX1_init_47 : decode cX1_init 47 = .ok (.aload_n 0, 1) := dk_42 (dk_at dksX1_init_1 23 rfl rfl)
theorem dX1_init_48 : decode cX1_init 48 = .ok (.sipush 700, 3) := dk_17 2 188 (dk_at dksX1_init_2 0 rfl rfl)
theorem dX1_init_51 : decode cX1_init 51 = .ok (.newarray .byte, 2) := dk_188_8 (dk_at dksX1_init_2 3 rfl rfl)
theorem dX1_init_53 : decode cX1_init 53 = .ok (.putfield 38, 3) := dk_181 0 38 (dk_at dksX1_init_2 5 rfl rfl)
theorem dX1_init_56 : decode cX1_init 56 = .ok (.aload_n 0, 1) := dk_42 (dk_at dksX1_init_2 8 rfl rfl)
theorem dX1_init_57 : decode cX1_init 57 = .ok (.iconst (-1), 1) := dk_2 (dk_at dksX1_init_2 9 rfl rfl)
theorem dX1_init_58 : decode cX1_init 58 = .ok (.putfield 42, 3) := dk_181 0 42 (dk_at dksX1_init_2 10 rfl rfl)
theorem dX1_init_61 : decode cX1_init 61 = .ok (.aload_n 0, 1) := dk_42 (dk_at dksX1_init_2 13 rfl rfl)
theorem dX1_init_62 : decode cX1_init 62 = .ok (.iconst 3, 1) := dk_6 (dk_at dksX1_init_2 14 rfl rfl)
theorem dX1_init_63 : decode cX1_init 63 = .ok (.newarray .int, 2) := dk_188_10 (dk_at dksX1_init_2 15 rfl rfl)
theorem dX1_init_65 : decode cX1_init 65 = .ok (.putfield 46, 3) := dk_181 0 46 (dk_at dksX1_init_2 17 rfl rfl)
theorem dX1_init_68 : decode cX1_init 68 = .ok (.aload_n 0, 1) := dk_42 (dk_at dksX1_init_2 20 rfl rfl)
theorem dX1_init_69 : decode cX1_init 69 = .ok (.new 49, 3) := dk_187 0 49 (dk_at dksX1_init_2 21 rfl rfl)
theorem dX1_init_72 : decode cX1_init 72 = .ok (.dup, 1) := dk_89 (dk_at dksX1_init_3 0 rfl rfl)
theorem dX1_init_73 : decode cX1_init 73 = .ok (.invokespecial 51, 3) := dk_183 0 51 (dk_at dksX1_init_3 1 rfl rfl)
theorem dX1_init_76 : decode cX1_init 76 = .ok (.putfield 52, 3) := dk_181 0 52 (dk_at dksX1_init_3 4 rfl rfl)
theorem dX1_init_79 : decode cX1_init 79 = .ok (.aload_n 0, 1) := dk_42 (dk_at dksX1_init_3 7 rfl rfl)
theorem dX1_init_80 : decode cX1_init 80 = .ok (.new 49, 3) := dk_187 0 49 (dk_at dksX1_init_3 8 rfl rfl)
theorem dX1_init_83 : decode cX1_init 83 = .ok (.dup, 1) := dk_89 (dk_at dksX1_init_3 11 rfl rfl)
theorem dX1_init_84 : decode cX1_init 84 = .ok (.invokespecial 51, 3) := dk_183 0 51 (dk_at dksX1_init_3 12 rfl rfl)
theorem dX1_init_87 : decode cX1_init 87 = .ok (.putfield 56, 3) := dk_181 0 56 (dk_at dksX1_init_3 15 rfl rfl)
theorem dX1_init_90 : decode cX1_init 90 = .ok (.return_, 1) := dk_177 (dk_at dksX1_init_3 18 rfl rfl)
abbrev cX1_feed : ByteArray := prog_1_method_6_code
def yX1_feed : MethodName := ⟨RX1, "feed", "(IIIII)I"⟩
def dkwX1_feed_5 : List UInt8 := [180, 0, 59, 172]
abbrev dktX1_feed_5 : List UInt8 := dkwX1_feed_5 ++ []
def dkwX1_feed_4 : List UInt8 := [112, 104, 100, 122, 145, 84, 132, 6, 1, 167, 255, 172, 42, 89, 180, 0, 59, 16, 20, 96, 181, 0, 59, 42]
abbrev dktX1_feed_4 : List UInt8 := dkwX1_feed_4 ++ dktX1_feed_5
def dkwX1_feed_3 : List UInt8 := [21, 5, 54, 7, 42, 180, 0, 38, 42, 180, 0, 59, 21, 6, 96, 21, 7, 16, 24, 16, 8, 21, 6, 7]
abbrev dktX1_feed_3 : List UInt8 := dkwX1_feed_3 ++ dktX1_feed_4
def dkwX1_feed_2 : List UInt8 := [21, 6, 16, 12, 162, 0, 7, 29, 167, 0, 17, 21, 6, 16, 16, 162, 0, 8, 21, 4, 167, 0, 5]
abbrev dktX1_feed_2 : List UInt8 := dkwX1_feed_2 ++ dktX1_feed_3
def dkwX1_feed_1 : List UInt8 := [162, 0, 83, 21, 6, 7, 162, 0, 7, 27, 167, 0, 39, 21, 6, 16, 8, 162, 0, 7, 28, 167, 0, 28]
abbrev dktX1_feed_1 : List UInt8 := dkwX1_feed_1 ++ dktX1_feed_2
def dkwX1_feed_0 : List UInt8 := [42, 180, 0, 59, 16, 20, 96, 17, 2, 188, 164, 0, 5, 2, 172, 3, 54, 6, 21, 6, 16, 20]
abbrev dktX1_feed_0 : List UInt8 := dkwX1_feed_0 ++ dktX1_feed_1
theorem dksX1_feed_0 : cX1_feed.data.toList.drop 0 = dktX1_feed_0 := by decide +kernel
theorem dksX1_feed_1 : cX1_feed.data.toList.drop 22 = dktX1_feed_1 := dk_seg dksX1_feed_0 22 rfl rfl
theorem dksX1_feed_2 : cX1_feed.data.toList.drop 46 = dktX1_feed_2 := dk_seg dksX1_feed_1 24 rfl rfl
theorem dksX1_feed_3 : cX1_feed.data.toList.drop 69 = dktX1_feed_3 := dk_seg dksX1_feed_2 23 rfl rfl
theorem dksX1_feed_4 : cX1_feed.data.toList.drop 93 = dktX1_feed_4 := dk_seg dksX1_feed_3 24 rfl rfl
theorem dksX1_feed_5 : cX1_feed.data.toList.drop 117 = dktX1_feed_5 := dk_seg dksX1_feed_4 24 rfl rfl
theorem dX1_feed_0 : decode cX1_feed 0 = .ok (.aload_n 0, 1) := dk_42 (dk_at dksX1_feed_0 0 rfl rfl)
theorem dX1_feed_1 : decode cX1_feed 1 = .ok (.getfield 59, 3) := dk_180 0 59 (dk_at dksX1_feed_0 1 rfl rfl)
theorem dX1_feed_4 : decode cX1_feed 4 = .ok (.bipush 20, 2) := dk_16 20 (dk_at dksX1_feed_0 4 rfl rfl)
theorem dX1_feed_6 : decode cX1_feed 6 = .ok (.iadd, 1) := dk_96 (dk_at dksX1_feed_0 6 rfl rfl)
theorem dX1_feed_7 : decode cX1_feed 7 = .ok (.sipush 700, 3) := dk_17 2 188 (dk_at dksX1_feed_0 7 rfl rfl)
theorem dX1_feed_10 : decode cX1_feed 10 = .ok (.if_icmp .le 5, 3) := dk_164 0 5 (dk_at dksX1_feed_0 10 rfl rfl)
theorem dX1_feed_13 : decode cX1_feed 13 = .ok (.iconst (-1), 1) := dk_2 (dk_at dksX1_feed_0 13 rfl rfl)
theorem dX1_feed_14 : decode cX1_feed 14 = .ok (.ireturn, 1) := dk_172 (dk_at dksX1_feed_0 14 rfl rfl)
theorem dX1_feed_15 : decode cX1_feed 15 = .ok (.iconst 0, 1) := dk_3 (dk_at dksX1_feed_0 15 rfl rfl)
theorem dX1_feed_16 : decode cX1_feed 16 = .ok (.istore 6, 2) := dk_54 6 (dk_at dksX1_feed_0 16 rfl rfl)
theorem dX1_feed_18 : decode cX1_feed 18 = .ok (.iload 6, 2) := dk_21 6 (dk_at dksX1_feed_0 18 rfl rfl)
theorem dX1_feed_20 : decode cX1_feed 20 = .ok (.bipush 20, 2) := dk_16 20 (dk_at dksX1_feed_0 20 rfl rfl)
theorem dX1_feed_22 : decode cX1_feed 22 = .ok (.if_icmp .ge 83, 3) := dk_162 0 83 (dk_at dksX1_feed_1 0 rfl rfl)
theorem dX1_feed_25 : decode cX1_feed 25 = .ok (.iload 6, 2) := dk_21 6 (dk_at dksX1_feed_1 3 rfl rfl)
theorem dX1_feed_27 : decode cX1_feed 27 = .ok (.iconst 4, 1) := dk_7 (dk_at dksX1_feed_1 5 rfl rfl)
theorem dX1_feed_28 : decode cX1_feed 28 = .ok (.if_icmp .ge 7, 3) := dk_162 0 7 (dk_at dksX1_feed_1 6 rfl rfl)
theorem dX1_feed_31 : decode cX1_feed 31 = .ok (.iload_n 1, 1) := dk_27 (dk_at dksX1_feed_1 9 rfl rfl)
theorem dX1_feed_32 : decode cX1_feed 32 = .ok (.goto 39, 3) := dk_167 0 39 (dk_at dksX1_feed_1 10 rfl rfl)
theorem dX1_feed_35 : decode cX1_feed 35 = .ok (.iload 6, 2) := dk_21 6 (dk_at dksX1_feed_1 13 rfl rfl)
theorem dX1_feed_37 : decode cX1_feed 37 = .ok (.bipush 8, 2) := dk_16 8 (dk_at dksX1_feed_1 15 rfl rfl)
theorem dX1_feed_39 : decode cX1_feed 39 = .ok (.if_icmp .ge 7, 3) := dk_162 0 7 (dk_at dksX1_feed_1 17 rfl rfl)
theorem dX1_feed_42 : decode cX1_feed 42 = .ok (.iload_n 2, 1) := dk_28 (dk_at dksX1_feed_1 20 rfl rfl)
theorem dX1_feed_43 : decode cX1_feed 43 = .ok (.goto 28, 3) := dk_167 0 28 (dk_at dksX1_feed_1 21 rfl rfl)
theorem dX1_feed_46 : decode cX1_feed 46 = .ok (.iload 6, 2) := dk_21 6 (dk_at dksX1_feed_2 0 rfl rfl)
theorem dX1_feed_48 : decode cX1_feed 48 = .ok (.bipush 12, 2) := dk_16 12 (dk_at dksX1_feed_2 2 rfl rfl)
theorem dX1_feed_50 : decode cX1_feed 50 = .ok (.if_icmp .ge 7, 3) := dk_162 0 7 (dk_at dksX1_feed_2 4 rfl rfl)
theorem dX1_feed_53 : decode cX1_feed 53 = .ok (.iload_n 3, 1) := dk_29 (dk_at dksX1_feed_2 7 rfl rfl)
theorem dX1_feed_54 : decode cX1_feed 54 = .ok (.goto 17, 3) := dk_167 0 17 (dk_at dksX1_feed_2 8 rfl rfl)
theorem dX1_feed_57 : decode cX1_feed 57 = .ok (.iload 6, 2) := dk_21 6 (dk_at dksX1_feed_2 11 rfl rfl)
theorem dX1_feed_59 : decode cX1_feed 59 = .ok (.bipush 16, 2) := dk_16 16 (dk_at dksX1_feed_2 13 rfl rfl)
theorem dX1_feed_61 : decode cX1_feed 61 = .ok (.if_icmp .ge 8, 3) := dk_162 0 8 (dk_at dksX1_feed_2 15 rfl rfl)
theorem dX1_feed_64 : decode cX1_feed 64 = .ok (.iload 4, 2) := dk_21 4 (dk_at dksX1_feed_2 18 rfl rfl)
theorem dX1_feed_66 : decode cX1_feed 66 = .ok (.goto 5, 3) := dk_167 0 5 (dk_at dksX1_feed_2 20 rfl rfl)
theorem dX1_feed_69 : decode cX1_feed 69 = .ok (.iload 5, 2) := dk_21 5 (dk_at dksX1_feed_3 0 rfl rfl)
theorem dX1_feed_71 : decode cX1_feed 71 = .ok (.istore 7, 2) := dk_54 7 (dk_at dksX1_feed_3 2 rfl rfl)
theorem dX1_feed_73 : decode cX1_feed 73 = .ok (.aload_n 0, 1) := dk_42 (dk_at dksX1_feed_3 4 rfl rfl)
theorem dX1_feed_74 : decode cX1_feed 74 = .ok (.getfield 38, 3) := dk_180 0 38 (dk_at dksX1_feed_3 5 rfl rfl)
theorem dX1_feed_77 : decode cX1_feed 77 = .ok (.aload_n 0, 1) := dk_42 (dk_at dksX1_feed_3 8 rfl rfl)
theorem dX1_feed_78 : decode cX1_feed 78 = .ok (.getfield 59, 3) := dk_180 0 59 (dk_at dksX1_feed_3 9 rfl rfl)
theorem dX1_feed_81 : decode cX1_feed 81 = .ok (.iload 6, 2) := dk_21 6 (dk_at dksX1_feed_3 12 rfl rfl)
theorem dX1_feed_83 : decode cX1_feed 83 = .ok (.iadd, 1) := dk_96 (dk_at dksX1_feed_3 14 rfl rfl)
theorem dX1_feed_84 : decode cX1_feed 84 = .ok (.iload 7, 2) := dk_21 7 (dk_at dksX1_feed_3 15 rfl rfl)
theorem dX1_feed_86 : decode cX1_feed 86 = .ok (.bipush 24, 2) := dk_16 24 (dk_at dksX1_feed_3 17 rfl rfl)
theorem dX1_feed_88 : decode cX1_feed 88 = .ok (.bipush 8, 2) := dk_16 8 (dk_at dksX1_feed_3 19 rfl rfl)
theorem dX1_feed_90 : decode cX1_feed 90 = .ok (.iload 6, 2) := dk_21 6 (dk_at dksX1_feed_3 21 rfl rfl)
theorem dX1_feed_92 : decode cX1_feed 92 = .ok (.iconst 4, 1) := dk_7 (dk_at dksX1_feed_3 23 rfl rfl)
theorem dX1_feed_93 : decode cX1_feed 93 = .ok (.irem, 1) := dk_112 (dk_at dksX1_feed_4 0 rfl rfl)
theorem dX1_feed_94 : decode cX1_feed 94 = .ok (.imul, 1) := dk_104 (dk_at dksX1_feed_4 1 rfl rfl)
theorem dX1_feed_95 : decode cX1_feed 95 = .ok (.isub, 1) := dk_100 (dk_at dksX1_feed_4 2 rfl rfl)
theorem dX1_feed_96 : decode cX1_feed 96 = .ok (.ishr, 1) := dk_122 (dk_at dksX1_feed_4 3 rfl rfl)
theorem dX1_feed_97 : decode cX1_feed 97 = .ok (.i2b, 1) := dk_145 (dk_at dksX1_feed_4 4 rfl rfl)
theorem dX1_feed_98 : decode cX1_feed 98 = .ok (.bastore, 1) := dk_84 (dk_at dksX1_feed_4 5 rfl rfl)
theorem dX1_feed_99 : decode cX1_feed 99 = .ok (.iinc 6 1, 3) := dk_132 6 1 (dk_at dksX1_feed_4 6 rfl rfl)
theorem dX1_feed_102 : decode cX1_feed 102 = .ok (.goto (-84), 3) := dk_167 255 172 (dk_at dksX1_feed_4 9 rfl rfl)
theorem dX1_feed_105 : decode cX1_feed 105 = .ok (.aload_n 0, 1) := dk_42 (dk_at dksX1_feed_4 12 rfl rfl)
theorem dX1_feed_106 : decode cX1_feed 106 = .ok (.dup, 1) := dk_89 (dk_at dksX1_feed_4 13 rfl rfl)
theorem dX1_feed_107 : decode cX1_feed 107 = .ok (.getfield 59, 3) := dk_180 0 59 (dk_at dksX1_feed_4 14 rfl rfl)
theorem dX1_feed_110 : decode cX1_feed 110 = .ok (.bipush 20, 2) := dk_16 20 (dk_at dksX1_feed_4 17 rfl rfl)
theorem dX1_feed_112 : decode cX1_feed 112 = .ok (.iadd, 1) := dk_96 (dk_at dksX1_feed_4 19 rfl rfl)
theorem dX1_feed_113 : decode cX1_feed 113 = .ok (.putfield 59, 3) := dk_181 0 59 (dk_at dksX1_feed_4 20 rfl rfl)
theorem dX1_feed_116 : decode cX1_feed 116 = .ok (.aload_n 0, 1) := dk_42 (dk_at dksX1_feed_4 23 rfl rfl)
theorem dX1_feed_117 : decode cX1_feed 117 = .ok (.getfield 59, 3) := dk_180 0 59 (dk_at dksX1_feed_5 0 rfl rfl)
theorem dX1_feed_120 : decode cX1_feed 120 = .ok (.ireturn, 1) := dk_172 (dk_at dksX1_feed_5 3 rfl rfl)
abbrev cX1_fault : ByteArray := prog_1_method_8_code
def yX1_fault : MethodName := ⟨RX1, "fault", "()I"⟩
theorem dX1_fault_0 : decode cX1_fault 0 = .ok (.aload_n 0, 1) := by decide +kernel
theorem dX1_fault_1 : decode cX1_fault 1 = .ok (.getfield 42, 3) := by decide +kernel
theorem dX1_fault_4 : decode cX1_fault 4 = .ok (.ireturn, 1) := by decide +kernel
abbrev cX1_days : ByteArray := prog_1_method_26_code
def yX1_days : MethodName := ⟨RX1, "days", "(I)I"⟩
def dkwX1_days_2 : List UInt8 := [172]
abbrev dktX1_days_2 : List UInt8 := dkwX1_days_2 ++ []
def dkwX1_days_1 : List UInt8 := [164, 0, 9, 42, 4, 182, 0, 220, 172, 42, 182, 0, 223, 42, 180, 0, 31, 27, 182, 0, 226, 180, 0, 107]
abbrev dktX1_days_1 : List UInt8 := dkwX1_days_1 ++ dktX1_days_2
def dkwX1_days_0 : List UInt8 := [27, 4, 16, 20, 184, 0, 122, 153, 0, 18, 42, 180, 0, 31, 180, 0, 107, 27, 96, 17, 3, 231]
abbrev dktX1_days_0 : List UInt8 := dkwX1_days_0 ++ dktX1_days_1
theorem dksX1_days_0 : cX1_days.data.toList.drop 0 = dktX1_days_0 := by decide +kernel
theorem dksX1_days_1 : cX1_days.data.toList.drop 22 = dktX1_days_1 := dk_seg dksX1_days_0 22 rfl rfl
theorem dksX1_days_2 : cX1_days.data.toList.drop 46 = dktX1_days_2 := dk_seg dksX1_days_1 24 rfl rfl
theorem dX1_days_0 : decode cX1_days 0 = .ok (.iload_n 1, 1) := dk_27 (dk_at dksX1_days_0 0 rfl rfl)
theorem dX1_days_1 : decode cX1_days 1 = .ok (.iconst 1, 1) := dk_4 (dk_at dksX1_days_0 1 rfl rfl)
theorem dX1_days_2 : decode cX1_days 2 = .ok (.bipush 20, 2) := dk_16 20 (dk_at dksX1_days_0 2 rfl rfl)
theorem dX1_days_4 : decode cX1_days 4 = .ok (.invokestatic 122, 3) := dk_184 0 122 (dk_at dksX1_days_0 4 rfl rfl)
theorem dX1_days_7 : decode cX1_days 7 = .ok (.ifCond .eq 18, 3) := dk_153 0 18 (dk_at dksX1_days_0 7 rfl rfl)
theorem dX1_days_10 : decode cX1_days 10 = .ok (.aload_n 0, 1) := dk_42 (dk_at dksX1_days_0 10 rfl rfl)
theorem dX1_days_11 : decode cX1_days 11 = .ok (.getfield 31, 3) := dk_180 0 31 (dk_at dksX1_days_0 11 rfl rfl)
theorem dX1_days_14 : decode cX1_days 14 = .ok (.getfield 107, 3) := dk_180 0 107 (dk_at dksX1_days_0 14 rfl rfl)
theorem dX1_days_17 : decode cX1_days 17 = .ok (.iload_n 1, 1) := dk_27 (dk_at dksX1_days_0 17 rfl rfl)
theorem dX1_days_18 : decode cX1_days 18 = .ok (.iadd, 1) := dk_96 (dk_at dksX1_days_0 18 rfl rfl)
theorem dX1_days_19 : decode cX1_days 19 = .ok (.sipush 999, 3) := dk_17 3 231 (dk_at dksX1_days_0 19 rfl rfl)
theorem dX1_days_22 : decode cX1_days 22 = .ok (.if_icmp .le 9, 3) := dk_164 0 9 (dk_at dksX1_days_1 0 rfl rfl)
theorem dX1_days_25 : decode cX1_days 25 = .ok (.aload_n 0, 1) := dk_42 (dk_at dksX1_days_1 3 rfl rfl)
theorem dX1_days_26 : decode cX1_days 26 = .ok (.iconst 1, 1) := dk_4 (dk_at dksX1_days_1 4 rfl rfl)
theorem dX1_days_27 : decode cX1_days 27 = .ok (.invokevirtual 220, 3) := dk_182 0 220 (dk_at dksX1_days_1 5 rfl rfl)
theorem dX1_days_30 : decode cX1_days 30 = .ok (.ireturn, 1) := dk_172 (dk_at dksX1_days_1 8 rfl rfl)
theorem dX1_days_31 : decode cX1_days 31 = .ok (.aload_n 0, 1) := dk_42 (dk_at dksX1_days_1 9 rfl rfl)
theorem dX1_days_32 : decode cX1_days 32 = .ok (.invokevirtual 223, 3) := dk_182 0 223 (dk_at dksX1_days_1 10 rfl rfl)
theorem dX1_days_35 : decode cX1_days 35 = .ok (.aload_n 0, 1) := dk_42 (dk_at dksX1_days_1 13 rfl rfl)
theorem dX1_days_36 : decode cX1_days 36 = .ok (.getfield 31, 3) := dk_180 0 31 (dk_at dksX1_days_1 14 rfl rfl)
theorem dX1_days_39 : decode cX1_days 39 = .ok (.iload_n 1, 1) := dk_27 (dk_at dksX1_days_1 17 rfl rfl)
theorem dX1_days_40 : decode cX1_days 40 = .ok (.invokevirtual 226, 3) := dk_182 0 226 (dk_at dksX1_days_1 18 rfl rfl)
theorem dX1_days_43 : decode cX1_days 43 = .ok (.getfield 107, 3) := dk_180 0 107 (dk_at dksX1_days_1 21 rfl rfl)
theorem dX1_days_46 : decode cX1_days 46 = .ok (.ireturn, 1) := dk_172 (dk_at dksX1_days_2 0 rfl rfl)
abbrev cX1_in : ByteArray := prog_1_method_1_code
def yX1_in : MethodName := ⟨RX1, "in", "(III)Z"⟩
def dkwX1_in_0 : List UInt8 := [26, 27, 161, 0, 12, 26, 28, 163, 0, 7, 4, 167, 0, 4, 3, 172]
abbrev dktX1_in_0 : List UInt8 := dkwX1_in_0 ++ []
theorem dksX1_in_0 : cX1_in.data.toList.drop 0 = dktX1_in_0 := by decide +kernel
theorem dX1_in_0 : decode cX1_in 0 = .ok (.iload_n 0, 1) := dk_26 (dk_at dksX1_in_0 0 rfl rfl)
theorem dX1_in_1 : decode cX1_in 1 = .ok (.iload_n 1, 1) := dk_27 (dk_at dksX1_in_0 1 rfl rfl)
theorem dX1_in_2 : decode cX1_in 2 = .ok (.if_icmp .lt 12, 3) := dk_161 0 12 (dk_at dksX1_in_0 2 rfl rfl)
theorem dX1_in_5 : decode cX1_in 5 = .ok (.iload_n 0, 1) := dk_26 (dk_at dksX1_in_0 5 rfl rfl)
theorem dX1_in_6 : decode cX1_in 6 = .ok (.iload_n 2, 1) := dk_28 (dk_at dksX1_in_0 6 rfl rfl)
theorem dX1_in_7 : decode cX1_in 7 = .ok (.if_icmp .gt 7, 3) := dk_163 0 7 (dk_at dksX1_in_0 7 rfl rfl)
theorem dX1_in_10 : decode cX1_in 10 = .ok (.iconst 1, 1) := dk_4 (dk_at dksX1_in_0 10 rfl rfl)
theorem dX1_in_11 : decode cX1_in 11 = .ok (.goto 4, 3) := dk_167 0 4 (dk_at dksX1_in_0 11 rfl rfl)
theorem dX1_in_14 : decode cX1_in 14 = .ok (.iconst 0, 1) := dk_3 (dk_at dksX1_in_0 14 rfl rfl)
theorem dX1_in_15 : decode cX1_in 15 = .ok (.ireturn, 1) := dk_172 (dk_at dksX1_in_0 15 rfl rfl)
abbrev cX1_refuse : ByteArray := prog_1_method_25_code
def yX1_refuse : MethodName := ⟨RX1, "refuse", "(I)I"⟩
def dkwX1_refuse_0 : List UInt8 := [42, 180, 0, 46, 27, 92, 46, 4, 96, 79, 2, 172]
abbrev dktX1_refuse_0 : List UInt8 := dkwX1_refuse_0 ++ []
theorem dksX1_refuse_0 : cX1_refuse.data.toList.drop 0 = dktX1_refuse_0 := by decide +kernel
theorem dX1_refuse_0 : decode cX1_refuse 0 = .ok (.aload_n 0, 1) := dk_42 (dk_at dksX1_refuse_0 0 rfl rfl)
theorem dX1_refuse_1 : decode cX1_refuse 1 = .ok (.getfield 46, 3) := dk_180 0 46 (dk_at dksX1_refuse_0 1 rfl rfl)
theorem dX1_refuse_4 : decode cX1_refuse 4 = .ok (.iload_n 1, 1) := dk_27 (dk_at dksX1_refuse_0 4 rfl rfl)
theorem dX1_refuse_5 : decode cX1_refuse 5 = .ok (.dup2, 1) := dk_92 (dk_at dksX1_refuse_0 5 rfl rfl)
theorem dX1_refuse_6 : decode cX1_refuse 6 = .ok (.iaload, 1) := dk_46 (dk_at dksX1_refuse_0 6 rfl rfl)
theorem dX1_refuse_7 : decode cX1_refuse 7 = .ok (.iconst 1, 1) := dk_4 (dk_at dksX1_refuse_0 7 rfl rfl)
theorem dX1_refuse_8 : decode cX1_refuse 8 = .ok (.iadd, 1) := dk_96 (dk_at dksX1_refuse_0 8 rfl rfl)
theorem dX1_refuse_9 : decode cX1_refuse 9 = .ok (.iastore, 1) := dk_79 (dk_at dksX1_refuse_0 9 rfl rfl)
theorem dX1_refuse_10 : decode cX1_refuse 10 = .ok (.iconst (-1), 1) := dk_2 (dk_at dksX1_refuse_0 10 rfl rfl)
theorem dX1_refuse_11 : decode cX1_refuse 11 = .ok (.ireturn, 1) := dk_172 (dk_at dksX1_refuse_0 11 rfl rfl)
abbrev cX1_keep : ByteArray := prog_1_method_24_code
def yX1_keep : MethodName := ⟨RX1, "keep", "()V"⟩
def dkwX1_keep_1 : List UInt8 := [185, 0, 99, 1, 0, 16, 40, 164, 0, 14, 42, 180, 0, 52, 3, 185, 0, 217, 2, 0, 87, 177]
abbrev dktX1_keep_1 : List UInt8 := dkwX1_keep_1 ++ []
def dkwX1_keep_0 : List UInt8 := [42, 180, 0, 52, 42, 180, 0, 31, 182, 0, 209, 185, 0, 213, 2, 0, 87, 42, 180, 0, 52]
abbrev dktX1_keep_0 : List UInt8 := dkwX1_keep_0 ++ dktX1_keep_1
theorem dksX1_keep_0 : cX1_keep.data.toList.drop 0 = dktX1_keep_0 := by decide +kernel
theorem dksX1_keep_1 : cX1_keep.data.toList.drop 21 = dktX1_keep_1 := dk_seg dksX1_keep_0 21 rfl rfl
theorem dX1_keep_0 : decode cX1_keep 0 = .ok (.aload_n 0, 1) := dk_42 (dk_at dksX1_keep_0 0 rfl rfl)
theorem dX1_keep_1 : decode cX1_keep 1 = .ok (.getfield 52, 3) := dk_180 0 52 (dk_at dksX1_keep_0 1 rfl rfl)
theorem dX1_keep_4 : decode cX1_keep 4 = .ok (.aload_n 0, 1) := dk_42 (dk_at dksX1_keep_0 4 rfl rfl)
theorem dX1_keep_5 : decode cX1_keep 5 = .ok (.getfield 31, 3) := dk_180 0 31 (dk_at dksX1_keep_0 5 rfl rfl)
theorem dX1_keep_8 : decode cX1_keep 8 = .ok (.invokevirtual 209, 3) := dk_182 0 209 (dk_at dksX1_keep_0 8 rfl rfl)
theorem dX1_keep_11 : decode cX1_keep 11 = .ok (.invokeinterface 213 2, 5) := by decide +kernel
theorem dX1_keep_16 : decode cX1_keep 16 = .ok (.pop, 1) := dk_87 (dk_at dksX1_keep_0 16 rfl rfl)
theorem dX1_keep_17 : decode cX1_keep 17 = .ok (.aload_n 0, 1) := dk_42 (dk_at dksX1_keep_0 17 rfl rfl)
theorem dX1_keep_18 : decode cX1_keep 18 = .ok (.getfield 52, 3) := dk_180 0 52 (dk_at dksX1_keep_0 18 rfl rfl)
theorem dX1_keep_21 : decode cX1_keep 21 = .ok (.invokeinterface 99 1, 5) := by decide +kernel
theorem dX1_keep_26 : decode cX1_keep 26 = .ok (.bipush 40, 2) := dk_16 40 (dk_at dksX1_keep_1 5 rfl rfl)
theorem dX1_keep_28 : decode cX1_keep 28 = .ok (.if_icmp .le 14, 3) := dk_164 0 14 (dk_at dksX1_keep_1 7 rfl rfl)
theorem dX1_keep_31 : decode cX1_keep 31 = .ok (.aload_n 0, 1) := dk_42 (dk_at dksX1_keep_1 10 rfl rfl)
theorem dX1_keep_32 : decode cX1_keep 32 = .ok (.getfield 52, 3) := dk_180 0 52 (dk_at dksX1_keep_1 11 rfl rfl)
theorem dX1_keep_35 : decode cX1_keep 35 = .ok (.iconst 0, 1) := dk_3 (dk_at dksX1_keep_1 14 rfl rfl)
theorem dX1_keep_36 : decode cX1_keep 36 = .ok (.invokeinterface 217 2, 5) := by decide +kernel
theorem dX1_keep_41 : decode cX1_keep 41 = .ok (.pop, 1) := dk_87 (dk_at dksX1_keep_1 20 rfl rfl)
theorem dX1_keep_42 : decode cX1_keep 42 = .ok (.return_, 1) := dk_177 (dk_at dksX1_keep_1 21 rfl rfl)
abbrev cX1_isOf : ByteArray := prog_1_method_4_code
def yX1_isOf : MethodName := ⟨RX1, "isOf", "(II)Z"⟩
def dkwX1_isOf_0 : List UInt8 := [26, 27, 122, 4, 126, 4, 160, 0, 7, 4, 167, 0, 4, 3, 172]
abbrev dktX1_isOf_0 : List UInt8 := dkwX1_isOf_0 ++ []
theorem dksX1_isOf_0 : cX1_isOf.data.toList.drop 0 = dktX1_isOf_0 := by decide +kernel
theorem dX1_isOf_0 : decode cX1_isOf 0 = .ok (.iload_n 0, 1) := dk_26 (dk_at dksX1_isOf_0 0 rfl rfl)
theorem dX1_isOf_1 : decode cX1_isOf 1 = .ok (.iload_n 1, 1) := dk_27 (dk_at dksX1_isOf_0 1 rfl rfl)
theorem dX1_isOf_2 : decode cX1_isOf 2 = .ok (.ishr, 1) := dk_122 (dk_at dksX1_isOf_0 2 rfl rfl)
theorem dX1_isOf_3 : decode cX1_isOf 3 = .ok (.iconst 1, 1) := dk_4 (dk_at dksX1_isOf_0 3 rfl rfl)
theorem dX1_isOf_4 : decode cX1_isOf 4 = .ok (.iand, 1) := dk_126 (dk_at dksX1_isOf_0 4 rfl rfl)
theorem dX1_isOf_5 : decode cX1_isOf 5 = .ok (.iconst 1, 1) := dk_4 (dk_at dksX1_isOf_0 5 rfl rfl)
theorem dX1_isOf_6 : decode cX1_isOf 6 = .ok (.if_icmp .ne 7, 3) := dk_160 0 7 (dk_at dksX1_isOf_0 6 rfl rfl)
theorem dX1_isOf_9 : decode cX1_isOf 9 = .ok (.iconst 1, 1) := dk_4 (dk_at dksX1_isOf_0 9 rfl rfl)
theorem dX1_isOf_10 : decode cX1_isOf 10 = .ok (.goto 4, 3) := dk_167 0 4 (dk_at dksX1_isOf_0 10 rfl rfl)
theorem dX1_isOf_13 : decode cX1_isOf 13 = .ok (.iconst 0, 1) := dk_3 (dk_at dksX1_isOf_0 13 rfl rfl)
theorem dX1_isOf_14 : decode cX1_isOf 14 = .ok (.ireturn, 1) := dk_172 (dk_at dksX1_isOf_0 14 rfl rfl)
abbrev cX1_undo : ByteArray := prog_1_method_31_code
def yX1_undo : MethodName := ⟨RX1, "undo", "()I"⟩
def dkwX1_undo_2 : List UInt8 := [180, 0, 52, 185, 0, 99, 1, 0, 172]
abbrev dktX1_undo_2 : List UInt8 := dkwX1_undo_2 ++ []
def dkwX1_undo_1 : List UInt8 := [185, 0, 99, 1, 0, 4, 100, 185, 0, 217, 2, 0, 192, 0, 26, 182, 0, 209, 181, 0, 31, 42]
abbrev dktX1_undo_1 : List UInt8 := dkwX1_undo_1 ++ dktX1_undo_2
def dkwX1_undo_0 : List UInt8 := [42, 180, 0, 52, 185, 0, 243, 1, 0, 153, 0, 5, 2, 172, 42, 42, 180, 0, 52, 42, 180, 0, 52]
abbrev dktX1_undo_0 : List UInt8 := dkwX1_undo_0 ++ dktX1_undo_1
theorem dksX1_undo_0 : cX1_undo.data.toList.drop 0 = dktX1_undo_0 := by decide +kernel
theorem dksX1_undo_1 : cX1_undo.data.toList.drop 23 = dktX1_undo_1 := dk_seg dksX1_undo_0 23 rfl rfl
theorem dksX1_undo_2 : cX1_undo.data.toList.drop 45 = dktX1_undo_2 := dk_seg dksX1_undo_1 22 rfl rfl
theorem dX1_undo_0 : decode cX1_undo 0 = .ok (.aload_n 0, 1) := dk_42 (dk_at dksX1_undo_0 0 rfl rfl)
theorem dX1_undo_1 : decode cX1_undo 1 = .ok (.getfield 52, 3) := dk_180 0 52 (dk_at dksX1_undo_0 1 rfl rfl)
theorem dX1_undo_4 : decode cX1_undo 4 = .ok (.invokeinterface 243 1, 5) := by decide +kernel
theorem dX1_undo_9 : decode cX1_undo 9 = .ok (.ifCond .eq 5, 3) := dk_153 0 5 (dk_at dksX1_undo_0 9 rfl rfl)
theorem dX1_undo_12 : decode cX1_undo 12 = .ok (.iconst (-1), 1) := dk_2 (dk_at dksX1_undo_0 12 rfl rfl)
theorem dX1_undo_13 : decode cX1_undo 13 = .ok (.ireturn, 1) := dk_172 (dk_at dksX1_undo_0 13 rfl rfl)
theorem dX1_undo_14 : decode cX1_undo 14 = .ok (.aload_n 0, 1) := dk_42 (dk_at dksX1_undo_0 14 rfl rfl)
theorem dX1_undo_15 : decode cX1_undo 15 = .ok (.aload_n 0, 1) := dk_42 (dk_at dksX1_undo_0 15 rfl rfl)
theorem dX1_undo_16 : decode cX1_undo 16 = .ok (.getfield 52, 3) := dk_180 0 52 (dk_at dksX1_undo_0 16 rfl rfl)
theorem dX1_undo_19 : decode cX1_undo 19 = .ok (.aload_n 0, 1) := dk_42 (dk_at dksX1_undo_0 19 rfl rfl)
theorem dX1_undo_20 : decode cX1_undo 20 = .ok (.getfield 52, 3) := dk_180 0 52 (dk_at dksX1_undo_0 20 rfl rfl)
theorem dX1_undo_23 : decode cX1_undo 23 = .ok (.invokeinterface 99 1, 5) := by decide +kernel
theorem dX1_undo_28 : decode cX1_undo 28 = .ok (.iconst 1, 1) := dk_4 (dk_at dksX1_undo_1 5 rfl rfl)
theorem dX1_undo_29 : decode cX1_undo 29 = .ok (.isub, 1) := dk_100 (dk_at dksX1_undo_1 6 rfl rfl)
theorem dX1_undo_30 : decode cX1_undo 30 = .ok (.invokeinterface 217 2, 5) := by decide +kernel
theorem dX1_undo_35 : decode cX1_undo 35 = .ok (.checkcast 26, 3) := dk_192 0 26 (dk_at dksX1_undo_1 12 rfl rfl)
theorem dX1_undo_38 : decode cX1_undo 38 = .ok (.invokevirtual 209, 3) := dk_182 0 209 (dk_at dksX1_undo_1 15 rfl rfl)
theorem dX1_undo_41 : decode cX1_undo 41 = .ok (.putfield 31, 3) := dk_181 0 31 (dk_at dksX1_undo_1 18 rfl rfl)
theorem dX1_undo_44 : decode cX1_undo 44 = .ok (.aload_n 0, 1) := dk_42 (dk_at dksX1_undo_1 21 rfl rfl)
theorem dX1_undo_45 : decode cX1_undo 45 = .ok (.getfield 52, 3) := dk_180 0 52 (dk_at dksX1_undo_2 0 rfl rfl)
theorem dX1_undo_48 : decode cX1_undo 48 = .ok (.invokeinterface 99 1, 5) := by decide +kernel
theorem dX1_undo_53 : decode cX1_undo 53 = .ok (.ireturn, 1) := dk_172 (dk_at dksX1_undo_2 8 rfl rfl)
abbrev cX1_toRead : ByteArray := prog_1_method_48_code
def yX1_toRead : MethodName := ⟨RX1, "toRead", "()I"⟩
def dkwX1_toRead_3 : List UInt8 := [153, 0, 14, 27, 4, 29, 120, 4, 21, 4, 120, 128, 128, 60, 132, 2, 1, 167, 255, 174, 27, 172]
abbrev dktX1_toRead_3 : List UInt8 := dkwX1_toRead_3 ++ []
def dkwX1_toRead_2 : List UInt8 := [185, 0, 167, 2, 0, 192, 0, 175, 4, 46, 54, 4, 42, 180, 0, 31, 29, 21, 4, 182, 1, 24]
abbrev dktX1_toRead_2 : List UInt8 := dkwX1_toRead_2 ++ dktX1_toRead_3
def dkwX1_toRead_1 : List UInt8 := [180, 0, 96, 28, 185, 0, 167, 2, 0, 192, 0, 175, 3, 46, 62, 42, 180, 0, 22, 180, 0, 96, 28]
abbrev dktX1_toRead_1 : List UInt8 := dkwX1_toRead_1 ++ dktX1_toRead_2
def dkwX1_toRead_0 : List UInt8 := [3, 60, 3, 61, 28, 42, 180, 0, 22, 180, 0, 96, 185, 0, 99, 1, 0, 162, 0, 72, 42, 180, 0, 22]
abbrev dktX1_toRead_0 : List UInt8 := dkwX1_toRead_0 ++ dktX1_toRead_1
theorem dksX1_toRead_0 : cX1_toRead.data.toList.drop 0 = dktX1_toRead_0 := by decide +kernel
theorem dksX1_toRead_1 : cX1_toRead.data.toList.drop 24 = dktX1_toRead_1 := dk_seg dksX1_toRead_0 24 rfl rfl
theorem dksX1_toRead_2 : cX1_toRead.data.toList.drop 47 = dktX1_toRead_2 := dk_seg dksX1_toRead_1 23 rfl rfl
theorem dksX1_toRead_3 : cX1_toRead.data.toList.drop 69 = dktX1_toRead_3 := dk_seg dksX1_toRead_2 22 rfl rfl
theorem dX1_toRead_0 : decode cX1_toRead 0 = .ok (.iconst 0, 1) := dk_3 (dk_at dksX1_toRead_0 0 rfl rfl)
theorem dX1_toRead_1 : decode cX1_toRead 1 = .ok (.istore_n 1, 1) := dk_60 (dk_at dksX1_toRead_0 1 rfl rfl)
theorem dX1_toRead_2 : decode cX1_toRead 2 = .ok (.iconst 0, 1) := dk_3 (dk_at dksX1_toRead_0 2 rfl rfl)
theorem dX1_toRead_3 : decode cX1_toRead 3 = .ok (.istore_n 2, 1) := dk_61 (dk_at dksX1_toRead_0 3 rfl rfl)
theorem dX1_toRead_4 : decode cX1_toRead 4 = .ok (.iload_n 2, 1) := dk_28 (dk_at dksX1_toRead_0 4 rfl rfl)
theorem dX1_toRead_5 : decode cX1_toRead 5 = .ok (.aload_n 0, 1) := dk_42 (dk_at dksX1_toRead_0 5 rfl rfl)
theorem dX1_toRead_6 : decode cX1_toRead 6 = .ok (.getfield 22, 3) := dk_180 0 22 (dk_at dksX1_toRead_0 6 rfl rfl)
theorem dX1_toRead_9 : decode cX1_toRead 9 = .ok (.getfield 96, 3) := dk_180 0 96 (dk_at dksX1_toRead_0 9 rfl rfl)
theorem dX1_toRead_12 : decode cX1_toRead 12 = .ok (.invokeinterface 99 1, 5) := by decide +kernel
theorem dX1_toRead_17 : decode cX1_toRead 17 = .ok (.if_icmp .ge 72, 3) := dk_162 0 72 (dk_at dksX1_toRead_0 17 rfl rfl)
theorem dX1_toRead_20 : decode cX1_toRead 20 = .ok (.aload_n 0, 1) := dk_42 (dk_at dksX1_toRead_0 20 rfl rfl)
theorem dX1_toRead_21 : decode cX1_toRead 21 = .ok (.getfield 22, 3) := dk_180 0 22 (dk_at dksX1_toRead_0 21 rfl rfl)
theorem dX1_toRead_24 : decode cX1_toRead 24 = .ok (.getfield 96, 3) := dk_180 0 96 (dk_at dksX1_toRead_1 0 rfl rfl)
theorem dX1_toRead_27 : decode cX1_toRead 27 = .ok (.iload_n 2, 1) := dk_28 (dk_at dksX1_toRead_1 3 rfl rfl)
theorem dX1_toRead_28 : decode cX1_toRead 28 = .ok (.invokeinterface 167 2, 5) := by decide +kernel
theorem dX1_toRead_33 : decode cX1_toRead 33 = .ok (.checkcast 175, 3) := dk_192 0 175 (dk_at dksX1_toRead_1 9 rfl rfl)
theorem dX1_toRead_36 : decode cX1_toRead 36 = .ok (.iconst 0, 1) := dk_3 (dk_at dksX1_toRead_1 12 rfl rfl)
theorem dX1_toRead_37 : decode cX1_toRead 37 = .ok (.iaload, 1) := dk_46 (dk_at dksX1_toRead_1 13 rfl rfl)
theorem dX1_toRead_38 : decode cX1_toRead 38 = .ok (.istore_n 3, 1) := dk_62 (dk_at dksX1_toRead_1 14 rfl rfl)
theorem dX1_toRead_39 : decode cX1_toRead 39 = .ok (.aload_n 0, 1) := dk_42 (dk_at dksX1_toRead_1 15 rfl rfl)
theorem dX1_toRead_40 : decode cX1_toRead 40 = .ok (.getfield 22, 3) := dk_180 0 22 (dk_at dksX1_toRead_1 16 rfl rfl)
theorem dX1_toRead_43 : decode cX1_toRead 43 = .ok (.getfield 96, 3) := dk_180 0 96 (dk_at dksX1_toRead_1 19 rfl rfl)
theorem dX1_toRead_46 : decode cX1_toRead 46 = .ok (.iload_n 2, 1) := dk_28 (dk_at dksX1_toRead_1 22 rfl rfl)
theorem dX1_toRead_47 : decode cX1_toRead 47 = .ok (.invokeinterface 167 2, 5) := by decide +kernel
theorem dX1_toRead_52 : decode cX1_toRead 52 = .ok (.checkcast 175, 3) := dk_192 0 175 (dk_at dksX1_toRead_2 5 rfl rfl)
theorem dX1_toRead_55 : decode cX1_toRead 55 = .ok (.iconst 1, 1) := dk_4 (dk_at dksX1_toRead_2 8 rfl rfl)
theorem dX1_toRead_56 : decode cX1_toRead 56 = .ok (.iaload, 1) := dk_46 (dk_at dksX1_toRead_2 9 rfl rfl)
theorem dX1_toRead_57 : decode cX1_toRead 57 = .ok (.istore 4, 2) := dk_54 4 (dk_at dksX1_toRead_2 10 rfl rfl)
theorem dX1_toRead_59 : decode cX1_toRead 59 = .ok (.aload_n 0, 1) := dk_42 (dk_at dksX1_toRead_2 12 rfl rfl)
theorem dX1_toRead_60 : decode cX1_toRead 60 = .ok (.getfield 31, 3) := dk_180 0 31 (dk_at dksX1_toRead_2 13 rfl rfl)
theorem dX1_toRead_63 : decode cX1_toRead 63 = .ok (.iload_n 3, 1) := dk_29 (dk_at dksX1_toRead_2 16 rfl rfl)
theorem dX1_toRead_64 : decode cX1_toRead 64 = .ok (.iload 4, 2) := dk_21 4 (dk_at dksX1_toRead_2 17 rfl rfl)
theorem dX1_toRead_66 : decode cX1_toRead 66 = .ok (.invokevirtual 280, 3) := dk_182 1 24 (dk_at dksX1_toRead_2 19 rfl rfl)
theorem dX1_toRead_69 : decode cX1_toRead 69 = .ok (.ifCond .eq 14, 3) := dk_153 0 14 (dk_at dksX1_toRead_3 0 rfl rfl)
theorem dX1_toRead_72 : decode cX1_toRead 72 = .ok (.iload_n 1, 1) := dk_27 (dk_at dksX1_toRead_3 3 rfl rfl)
theorem dX1_toRead_73 : decode cX1_toRead 73 = .ok (.iconst 1, 1) := dk_4 (dk_at dksX1_toRead_3 4 rfl rfl)
theorem dX1_toRead_74 : decode cX1_toRead 74 = .ok (.iload_n 3, 1) := dk_29 (dk_at dksX1_toRead_3 5 rfl rfl)
theorem dX1_toRead_75 : decode cX1_toRead 75 = .ok (.ishl, 1) := dk_120 (dk_at dksX1_toRead_3 6 rfl rfl)
theorem dX1_toRead_76 : decode cX1_toRead 76 = .ok (.iconst 1, 1) := dk_4 (dk_at dksX1_toRead_3 7 rfl rfl)
theorem dX1_toRead_77 : decode cX1_toRead 77 = .ok (.iload 4, 2) := dk_21 4 (dk_at dksX1_toRead_3 8 rfl rfl)
theorem dX1_toRead_79 : decode cX1_toRead 79 = .ok (.ishl, 1) := dk_120 (dk_at dksX1_toRead_3 10 rfl rfl)
theorem dX1_toRead_80 : decode cX1_toRead 80 = .ok (.ior, 1) := dk_128 (dk_at dksX1_toRead_3 11 rfl rfl)
theorem dX1_toRead_81 : decode cX1_toRead 81 = .ok (.ior, 1) := dk_128 (dk_at dksX1_toRead_3 12 rfl rfl)
theorem dX1_toRead_82 : decode cX1_toRead 82 = .ok (.istore_n 1, 1) := dk_60 (dk_at dksX1_toRead_3 13 rfl rfl)
theorem dX1_toRead_83 : decode cX1_toRead 83 = .ok (.iinc 2 1, 3) := dk_132 2 1 (dk_at dksX1_toRead_3 14 rfl rfl)
theorem dX1_toRead_86 : decode cX1_toRead 86 = .ok (.goto (-82), 3) := dk_167 255 174 (dk_at dksX1_toRead_3 17 rfl rfl)
theorem dX1_toRead_89 : decode cX1_toRead 89 = .ok (.iload_n 1, 1) := dk_27 (dk_at dksX1_toRead_3 20 rfl rfl)
theorem dX1_toRead_90 : decode cX1_toRead 90 = .ok (.ireturn, 1) := dk_172 (dk_at dksX1_toRead_3 21 rfl rfl)
abbrev cX1_forget : ByteArray := prog_1_method_51_code
def yX1_forget : MethodName := ⟨RX1, "forget", "()V"⟩
def dkwX1_forget_0 : List UInt8 := [42, 187, 0, 49, 89, 183, 0, 51, 181, 0, 56, 177]
abbrev dktX1_forget_0 : List UInt8 := dkwX1_forget_0 ++ []
theorem dksX1_forget_0 : cX1_forget.data.toList.drop 0 = dktX1_forget_0 := by decide +kernel
theorem dX1_forget_0 : decode cX1_forget 0 = .ok (.aload_n 0, 1) := dk_42 (dk_at dksX1_forget_0 0 rfl rfl)
theorem dX1_forget_1 : decode cX1_forget 1 = .ok (.new 49, 3) := dk_187 0 49 (dk_at dksX1_forget_0 1 rfl rfl)
theorem dX1_forget_4 : decode cX1_forget 4 = .ok (.dup, 1) := dk_89 (dk_at dksX1_forget_0 4 rfl rfl)
theorem dX1_forget_5 : decode cX1_forget 5 = .ok (.invokespecial 51, 3) := dk_183 0 51 (dk_at dksX1_forget_0 5 rfl rfl)
theorem dX1_forget_8 : decode cX1_forget 8 = .ok (.putfield 56, 3) := dk_181 0 56 (dk_at dksX1_forget_0 8 rfl rfl)
theorem dX1_forget_11 : decode cX1_forget 11 = .ok (.return_, 1) := dk_177 (dk_at dksX1_forget_0 11 rfl rfl)
abbrev cX1_image : ByteArray := prog_1_method_73_code
def yX1_image : MethodName := ⟨RX1, "image", "()V"⟩
def dkwX1_image_1 : List UInt8 := [181, 1, 85, 42, 187, 0, 49, 89, 42, 180, 0, 56, 183, 1, 82, 181, 1, 88, 177]
abbrev dktX1_image_1 : List UInt8 := dkwX1_image_1 ++ []
def dkwX1_image_0 : List UInt8 := [42, 42, 180, 0, 31, 182, 0, 209, 181, 0, 86, 42, 187, 0, 49, 89, 42, 180, 0, 52, 183, 1, 82]
abbrev dktX1_image_0 : List UInt8 := dkwX1_image_0 ++ dktX1_image_1
theorem dksX1_image_0 : cX1_image.data.toList.drop 0 = dktX1_image_0 := by decide +kernel
theorem dksX1_image_1 : cX1_image.data.toList.drop 23 = dktX1_image_1 := dk_seg dksX1_image_0 23 rfl rfl
theorem dX1_image_0 : decode cX1_image 0 = .ok (.aload_n 0, 1) := dk_42 (dk_at dksX1_image_0 0 rfl rfl)
theorem dX1_image_1 : decode cX1_image 1 = .ok (.aload_n 0, 1) := dk_42 (dk_at dksX1_image_0 1 rfl rfl)
theorem dX1_image_2 : decode cX1_image 2 = .ok (.getfield 31, 3) := dk_180 0 31 (dk_at dksX1_image_0 2 rfl rfl)
theorem dX1_image_5 : decode cX1_image 5 = .ok (.invokevirtual 209, 3) := dk_182 0 209 (dk_at dksX1_image_0 5 rfl rfl)
theorem dX1_image_8 : decode cX1_image 8 = .ok (.putfield 86, 3) := dk_181 0 86 (dk_at dksX1_image_0 8 rfl rfl)
theorem dX1_image_11 : decode cX1_image 11 = .ok (.aload_n 0, 1) := dk_42 (dk_at dksX1_image_0 11 rfl rfl)
theorem dX1_image_12 : decode cX1_image 12 = .ok (.new 49, 3) := dk_187 0 49 (dk_at dksX1_image_0 12 rfl rfl)
theorem dX1_image_15 : decode cX1_image 15 = .ok (.dup, 1) := dk_89 (dk_at dksX1_image_0 15 rfl rfl)
theorem dX1_image_16 : decode cX1_image 16 = .ok (.aload_n 0, 1) := dk_42 (dk_at dksX1_image_0 16 rfl rfl)
theorem dX1_image_17 : decode cX1_image 17 = .ok (.getfield 52, 3) := dk_180 0 52 (dk_at dksX1_image_0 17 rfl rfl)
theorem dX1_image_20 : decode cX1_image 20 = .ok (.invokespecial 338, 3) := dk_183 1 82 (dk_at dksX1_image_0 20 rfl rfl)
theorem dX1_image_23 : decode cX1_image 23 = .ok (.putfield 341, 3) := dk_181 1 85 (dk_at dksX1_image_1 0 rfl rfl)
theorem dX1_image_26 : decode cX1_image 26 = .ok (.aload_n 0, 1) := dk_42 (dk_at dksX1_image_1 3 rfl rfl)
theorem dX1_image_27 : decode cX1_image 27 = .ok (.new 49, 3) := dk_187 0 49 (dk_at dksX1_image_1 4 rfl rfl)
theorem dX1_image_30 : decode cX1_image 30 = .ok (.dup, 1) := dk_89 (dk_at dksX1_image_1 7 rfl rfl)
theorem dX1_image_31 : decode cX1_image 31 = .ok (.aload_n 0, 1) := dk_42 (dk_at dksX1_image_1 8 rfl rfl)
theorem dX1_image_32 : decode cX1_image 32 = .ok (.getfield 56, 3) := dk_180 0 56 (dk_at dksX1_image_1 9 rfl rfl)
theorem dX1_image_35 : decode cX1_image 35 = .ok (.invokespecial 338, 3) := dk_183 1 82 (dk_at dksX1_image_1 12 rfl rfl)
theorem dX1_image_38 : decode cX1_image 38 = .ok (.putfield 344, 3) := dk_181 1 88 (dk_at dksX1_image_1 15 rfl rfl)
theorem dX1_image_41 : decode cX1_image 41 = .ok (.return_, 1) := dk_177 (dk_at dksX1_image_1 18 rfl rfl)
abbrev cX1_restore : ByteArray := prog_1_method_74_code
def yX1_restore : MethodName := ⟨RX1, "restore", "()Z"⟩
def dkwX1_restore_2 : List UInt8 := [181, 0, 56, 4, 172]
abbrev dktX1_restore_2 : List UInt8 := dkwX1_restore_2 ++ []
def dkwX1_restore_1 : List UInt8 := [89, 42, 180, 1, 85, 183, 1, 82, 181, 0, 52, 42, 187, 0, 49, 89, 42, 180, 1, 88, 183, 1, 82]
abbrev dktX1_restore_1 : List UInt8 := dkwX1_restore_1 ++ dktX1_restore_2
def dkwX1_restore_0 : List UInt8 := [42, 180, 0, 86, 199, 0, 5, 3, 172, 42, 42, 180, 0, 86, 182, 0, 209, 181, 0, 31, 42, 187, 0, 49]
abbrev dktX1_restore_0 : List UInt8 := dkwX1_restore_0 ++ dktX1_restore_1
theorem dksX1_restore_0 : cX1_restore.data.toList.drop 0 = dktX1_restore_0 := by decide +kernel
theorem dksX1_restore_1 : cX1_restore.data.toList.drop 24 = dktX1_restore_1 := dk_seg dksX1_restore_0 24 rfl rfl
theorem dksX1_restore_2 : cX1_restore.data.toList.drop 47 = dktX1_restore_2 := dk_seg dksX1_restore_1 23 rfl rfl
theorem dX1_restore_0 : decode cX1_restore 0 = .ok (.aload_n 0, 1) := dk_42 (dk_at dksX1_restore_0 0 rfl rfl)
theorem dX1_restore_1 : decode cX1_restore 1 = .ok (.getfield 86, 3) := dk_180 0 86 (dk_at dksX1_restore_0 1 rfl rfl)
theorem dX1_restore_4 : decode cX1_restore 4 = .ok (.ifnonnull 5, 3) := dk_199 0 5 (dk_at dksX1_restore_0 4 rfl rfl)
theorem dX1_restore_7 : decode cX1_restore 7 = .ok (.iconst 0, 1) := dk_3 (dk_at dksX1_restore_0 7 rfl rfl)
theorem dX1_restore_8 : decode cX1_restore 8 = .ok (.ireturn, 1) := dk_172 (dk_at dksX1_restore_0 8 rfl rfl)
theorem dX1_restore_9 : decode cX1_restore 9 = .ok (.aload_n 0, 1) := dk_42 (dk_at dksX1_restore_0 9 rfl rfl)
theorem dX1_restore_10 : decode cX1_restore 10 = .ok (.aload_n 0, 1) := dk_42 (dk_at dksX1_restore_0 10 rfl rfl)
theorem dX1_restore_11 : decode cX1_restore 11 = .ok (.getfield 86, 3) := dk_180 0 86 (dk_at dksX1_restore_0 11 rfl rfl)
theorem dX1_restore_14 : decode cX1_restore 14 = .ok (.invokevirtual 209, 3) := dk_182 0 209 (dk_at dksX1_restore_0 14 rfl rfl)
theorem dX1_restore_17 : decode cX1_restore 17 = .ok (.putfield 31, 3) := dk_181 0 31 (dk_at dksX1_restore_0 17 rfl rfl)
theorem dX1_restore_20 : decode cX1_restore 20 = .ok (.aload_n 0, 1) := dk_42 (dk_at dksX1_restore_0 20 rfl rfl)
theorem dX1_restore_21 : decode cX1_restore 21 = .ok (.new 49, 3) := dk_187 0 49 (dk_at dksX1_restore_0 21 rfl rfl)
theorem dX1_restore_24 : decode cX1_restore 24 = .ok (.dup, 1) := dk_89 (dk_at dksX1_restore_1 0 rfl rfl)
theorem dX1_restore_25 : decode cX1_restore 25 = .ok (.aload_n 0, 1) := dk_42 (dk_at dksX1_restore_1 1 rfl rfl)
theorem dX1_restore_26 : decode cX1_restore 26 = .ok (.getfield 341, 3) := dk_180 1 85 (dk_at dksX1_restore_1 2 rfl rfl)
theorem dX1_restore_29 : decode cX1_restore 29 = .ok (.invokespecial 338, 3) := dk_183 1 82 (dk_at dksX1_restore_1 5 rfl rfl)
theorem dX1_restore_32 : decode cX1_restore 32 = .ok (.putfield 52, 3) := dk_181 0 52 (dk_at dksX1_restore_1 8 rfl rfl)
theorem dX1_restore_35 : decode cX1_restore 35 = .ok (.aload_n 0, 1) := dk_42 (dk_at dksX1_restore_1 11 rfl rfl)
theorem dX1_restore_36 : decode cX1_restore 36 = .ok (.new 49, 3) := dk_187 0 49 (dk_at dksX1_restore_1 12 rfl rfl)
theorem dX1_restore_39 : decode cX1_restore 39 = .ok (.dup, 1) := dk_89 (dk_at dksX1_restore_1 15 rfl rfl)
theorem dX1_restore_40 : decode cX1_restore 40 = .ok (.aload_n 0, 1) := dk_42 (dk_at dksX1_restore_1 16 rfl rfl)
theorem dX1_restore_41 : decode cX1_restore 41 = .ok (.getfield 344, 3) := dk_180 1 88 (dk_at dksX1_restore_1 17 rfl rfl)
theorem dX1_restore_44 : decode cX1_restore 44 = .ok (.invokespecial 338, 3) := dk_183 1 82 (dk_at dksX1_restore_1 20 rfl rfl)
theorem dX1_restore_47 : decode cX1_restore 47 = .ok (.putfield 56, 3) := dk_181 0 56 (dk_at dksX1_restore_2 0 rfl rfl)
theorem dX1_restore_50 : decode cX1_restore 50 = .ok (.iconst 1, 1) := dk_4 (dk_at dksX1_restore_2 3 rfl rfl)
theorem dX1_restore_51 : decode cX1_restore 51 = .ok (.ireturn, 1) := dk_172 (dk_at dksX1_restore_2 4 rfl rfl)
abbrev cX1_office : ByteArray := prog_1_method_7_code
def yX1_office : MethodName := ⟨RX1, "office", "(I)I"⟩
def dkwX1_office_4 : List UInt8 := [181, 0, 52, 42, 187, 0, 49, 89, 183, 0, 51, 181, 0, 56, 42, 1, 181, 0, 86, 3, 172]
abbrev dktX1_office_4 : List UInt8 := dkwX1_office_4 ++ []
def dkwX1_office_3 : List UInt8 := [79, 45, 180, 0, 80, 172, 42, 44, 180, 0, 83, 181, 0, 31, 42, 187, 0, 49, 89, 183, 0, 51]
abbrev dktX1_office_3 : List UInt8 := dkwX1_office_3 ++ dktX1_office_4
def dkwX1_office_2 : List UInt8 := [181, 0, 22, 167, 0, 27, 78, 42, 44, 180, 0, 77, 181, 0, 42, 42, 180, 0, 46, 3, 92, 46, 4, 96]
abbrev dktX1_office_2 : List UInt8 := dkwX1_office_2 ++ dktX1_office_3
def dkwX1_office_1 : List UInt8 := [181, 0, 59, 42, 2, 181, 0, 42, 187, 0, 66, 89, 42, 27, 183, 0, 68, 77, 42, 44, 182, 0, 71]
abbrev dktX1_office_1 : List UInt8 := dkwX1_office_1 ++ dktX1_office_2
def dkwX1_office_0 : List UInt8 := [27, 155, 0, 15, 27, 42, 180, 0, 59, 163, 0, 7, 4, 167, 0, 4, 3, 184, 0, 62, 42, 3]
abbrev dktX1_office_0 : List UInt8 := dkwX1_office_0 ++ dktX1_office_1
theorem dksX1_office_0 : cX1_office.data.toList.drop 0 = dktX1_office_0 := by decide +kernel
theorem dksX1_office_1 : cX1_office.data.toList.drop 22 = dktX1_office_1 := dk_seg dksX1_office_0 22 rfl rfl
theorem dksX1_office_2 : cX1_office.data.toList.drop 45 = dktX1_office_2 := dk_seg dksX1_office_1 23 rfl rfl
theorem dksX1_office_3 : cX1_office.data.toList.drop 69 = dktX1_office_3 := dk_seg dksX1_office_2 24 rfl rfl
theorem dksX1_office_4 : cX1_office.data.toList.drop 91 = dktX1_office_4 := dk_seg dksX1_office_3 22 rfl rfl
theorem dX1_office_0 : decode cX1_office 0 = .ok (.iload_n 1, 1) := dk_27 (dk_at dksX1_office_0 0 rfl rfl)
theorem dX1_office_1 : decode cX1_office 1 = .ok (.ifCond .lt 15, 3) := dk_155 0 15 (dk_at dksX1_office_0 1 rfl rfl)
theorem dX1_office_4 : decode cX1_office 4 = .ok (.iload_n 1, 1) := dk_27 (dk_at dksX1_office_0 4 rfl rfl)
theorem dX1_office_5 : decode cX1_office 5 = .ok (.aload_n 0, 1) := dk_42 (dk_at dksX1_office_0 5 rfl rfl)
theorem dX1_office_6 : decode cX1_office 6 = .ok (.getfield 59, 3) := dk_180 0 59 (dk_at dksX1_office_0 6 rfl rfl)
theorem dX1_office_9 : decode cX1_office 9 = .ok (.if_icmp .gt 7, 3) := dk_163 0 7 (dk_at dksX1_office_0 9 rfl rfl)
theorem dX1_office_12 : decode cX1_office 12 = .ok (.iconst 1, 1) := dk_4 (dk_at dksX1_office_0 12 rfl rfl)
theorem dX1_office_13 : decode cX1_office 13 = .ok (.goto 4, 3) := dk_167 0 4 (dk_at dksX1_office_0 13 rfl rfl)
theorem dX1_office_16 : decode cX1_office 16 = .ok (.iconst 0, 1) := dk_3 (dk_at dksX1_office_0 16 rfl rfl)
theorem dX1_office_17 : decode cX1_office 17 = .ok (.invokestatic 62, 3) := dk_184 0 62 (dk_at dksX1_office_0 17 rfl rfl)
theorem dX1_office_20 : decode cX1_office 20 = .ok (.aload_n 0, 1) := dk_42 (dk_at dksX1_office_0 20 rfl rfl)
theorem dX1_office_21 : decode cX1_office 21 = .ok (.iconst 0, 1) := dk_3 (dk_at dksX1_office_0 21 rfl rfl)
theorem dX1_office_22 : decode cX1_office 22 = .ok (.putfield 59, 3) := dk_181 0 59 (dk_at dksX1_office_1 0 rfl rfl)
theorem dX1_office_25 : decode cX1_office 25 = .ok (.aload_n 0, 1) := dk_42 (dk_at dksX1_office_1 3 rfl rfl)
theorem dX1_office_26 : decode cX1_office 26 = .ok (.iconst (-1), 1) := dk_2 (dk_at dksX1_office_1 4 rfl rfl)
theorem dX1_office_27 : decode cX1_office 27 = .ok (.putfield 42, 3) := dk_181 0 42 (dk_at dksX1_office_1 5 rfl rfl)
theorem dX1_office_30 : decode cX1_office 30 = .ok (.new 66, 3) := dk_187 0 66 (dk_at dksX1_office_1 8 rfl rfl)
theorem dX1_office_33 : decode cX1_office 33 = .ok (.dup, 1) := dk_89 (dk_at dksX1_office_1 11 rfl rfl)
theorem dX1_office_34 : decode cX1_office 34 = .ok (.aload_n 0, 1) := dk_42 (dk_at dksX1_office_1 12 rfl rfl)
theorem dX1_office_35 : decode cX1_office 35 = .ok (.iload_n 1, 1) := dk_27 (dk_at dksX1_office_1 13 rfl rfl)
theorem dX1_office_36 : decode cX1_office 36 = .ok (.invokespecial 68, 3) := dk_183 0 68 (dk_at dksX1_office_1 14 rfl rfl)
theorem dX1_office_39 : decode cX1_office 39 = .ok (.astore_n 2, 1) := dk_77 (dk_at dksX1_office_1 17 rfl rfl)
theorem dX1_office_40 : decode cX1_office 40 = .ok (.aload_n 0, 1) := dk_42 (dk_at dksX1_office_1 18 rfl rfl)
theorem dX1_office_41 : decode cX1_office 41 = .ok (.aload_n 2, 1) := dk_44 (dk_at dksX1_office_1 19 rfl rfl)
theorem dX1_office_42 : decode cX1_office 42 = .ok (.invokevirtual 71, 3) := dk_182 0 71 (dk_at dksX1_office_1 20 rfl rfl)
theorem dX1_office_45 : decode cX1_office 45 = .ok (.putfield 22, 3) := dk_181 0 22 (dk_at dksX1_office_2 0 rfl rfl)
theorem dX1_office_48 : decode cX1_office 48 = .ok (.goto 27, 3) := dk_167 0 27 (dk_at dksX1_office_2 3 rfl rfl)
theorem dX1_office_51 : decode cX1_office 51 = .ok (.astore_n 3, 1) := dk_78 (dk_at dksX1_office_2 6 rfl rfl)
theorem dX1_office_52 : decode cX1_office 52 = .ok (.aload_n 0, 1) := dk_42 (dk_at dksX1_office_2 7 rfl rfl)
theorem dX1_office_53 : decode cX1_office 53 = .ok (.aload_n 2, 1) := dk_44 (dk_at dksX1_office_2 8 rfl rfl)
theorem dX1_office_54 : decode cX1_office 54 = .ok (.getfield 77, 3) := dk_180 0 77 (dk_at dksX1_office_2 9 rfl rfl)
theorem dX1_office_57 : decode cX1_office 57 = .ok (.putfield 42, 3) := dk_181 0 42 (dk_at dksX1_office_2 12 rfl rfl)
theorem dX1_office_60 : decode cX1_office 60 = .ok (.aload_n 0, 1) := dk_42 (dk_at dksX1_office_2 15 rfl rfl)
theorem dX1_office_61 : decode cX1_office 61 = .ok (.getfield 46, 3) := dk_180 0 46 (dk_at dksX1_office_2 16 rfl rfl)
theorem dX1_office_64 : decode cX1_office 64 = .ok (.iconst 0, 1) := dk_3 (dk_at dksX1_office_2 19 rfl rfl)
theorem dX1_office_65 : decode cX1_office 65 = .ok (.dup2, 1) := dk_92 (dk_at dksX1_office_2 20 rfl rfl)
theorem dX1_office_66 : decode cX1_office 66 = .ok (.iaload, 1) := dk_46 (dk_at dksX1_office_2 21 rfl rfl)
theorem dX1_office_67 : decode cX1_office 67 = .ok (.iconst 1, 1) := dk_4 (dk_at dksX1_office_2 22 rfl rfl)
theorem dX1_office_68 : decode cX1_office 68 = .ok (.iadd, 1) := dk_96 (dk_at dksX1_office_2 23 rfl rfl)
theorem dX1_office_69 : decode cX1_office 69 = .ok (.iastore, 1) := dk_79 (dk_at dksX1_office_3 0 rfl rfl)
theorem dX1_office_70 : decode cX1_office 70 = .ok (.aload_n 3, 1) := dk_45 (dk_at dksX1_office_3 1 rfl rfl)
theorem dX1_office_71 : decode cX1_office 71 = .ok (.getfield 80, 3) := dk_180 0 80 (dk_at dksX1_office_3 2 rfl rfl)
theorem dX1_office_74 : decode cX1_office 74 = .ok (.ireturn, 1) := dk_172 (dk_at dksX1_office_3 5 rfl rfl)
theorem dX1_office_75 : decode cX1_office 75 = .ok (.aload_n 0, 1) := dk_42 (dk_at dksX1_office_3 6 rfl rfl)
theorem dX1_office_76 : decode cX1_office 76 = .ok (.aload_n 2, 1) := dk_44 (dk_at dksX1_office_3 7 rfl rfl)
theorem dX1_office_77 : decode cX1_office 77 = .ok (.getfield 83, 3) := dk_180 0 83 (dk_at dksX1_office_3 8 rfl rfl)
theorem dX1_office_80 : decode cX1_office 80 = .ok (.putfield 31, 3) := dk_181 0 31 (dk_at dksX1_office_3 11 rfl rfl)
theorem dX1_office_83 : decode cX1_office 83 = .ok (.aload_n 0, 1) := dk_42 (dk_at dksX1_office_3 14 rfl rfl)
theorem dX1_office_84 : decode cX1_office 84 = .ok (.new 49, 3) := dk_187 0 49 (dk_at dksX1_office_3 15 rfl rfl)
theorem dX1_office_87 : decode cX1_office 87 = .ok (.dup, 1) := dk_89 (dk_at dksX1_office_3 18 rfl rfl)
theorem dX1_office_88 : decode cX1_office 88 = .ok (.invokespecial 51, 3) := dk_183 0 51 (dk_at dksX1_office_3 19 rfl rfl)
theorem dX1_office_91 : decode cX1_office 91 = .ok (.putfield 52, 3) := dk_181 0 52 (dk_at dksX1_office_4 0 rfl rfl)
theorem dX1_office_94 : decode cX1_office 94 = .ok (.aload_n 0, 1) := dk_42 (dk_at dksX1_office_4 3 rfl rfl)
theorem dX1_office_95 : decode cX1_office 95 = .ok (.new 49, 3) := dk_187 0 49 (dk_at dksX1_office_4 4 rfl rfl)
theorem dX1_office_98 : decode cX1_office 98 = .ok (.dup, 1) := dk_89 (dk_at dksX1_office_4 7 rfl rfl)
theorem dX1_office_99 : decode cX1_office 99 = .ok (.invokespecial 51, 3) := dk_183 0 51 (dk_at dksX1_office_4 8 rfl rfl)
theorem dX1_office_102 : decode cX1_office 102 = .ok (.putfield 56, 3) := dk_181 0 56 (dk_at dksX1_office_4 11 rfl rfl)
theorem dX1_office_105 : decode cX1_office 105 = .ok (.aload_n 0, 1) := dk_42 (dk_at dksX1_office_4 14 rfl rfl)
theorem dX1_office_106 : decode cX1_office 106 = .ok (.aconst_null, 1) := dk_1 (dk_at dksX1_office_4 15 rfl rfl)
theorem dX1_office_107 : decode cX1_office 107 = .ok (.putfield 86, 3) := dk_181 0 86 (dk_at dksX1_office_4 16 rfl rfl)
theorem dX1_office_110 : decode cX1_office 110 = .ok (.iconst 0, 1) := dk_3 (dk_at dksX1_office_4 19 rfl rfl)
theorem dX1_office_111 : decode cX1_office 111 = .ok (.ireturn, 1) := dk_172 (dk_at dksX1_office_4 20 rfl rfl)
abbrev cX1_right : ByteArray := prog_1_method_3_code
def yX1_right : MethodName := ⟨RX1, "right", "(Z)V"⟩
def dkwX1_right_0 : List UInt8 := [26, 154, 0, 11, 187, 0, 7, 89, 183, 0, 9, 191, 177]
abbrev dktX1_right_0 : List UInt8 := dkwX1_right_0 ++ []
theorem dksX1_right_0 : cX1_right.data.toList.drop 0 = dktX1_right_0 := by decide +kernel
theorem dX1_right_0 : decode cX1_right 0 = .ok (.iload_n 0, 1) := dk_26 (dk_at dksX1_right_0 0 rfl rfl)
theorem dX1_right_1 : decode cX1_right 1 = .ok (.ifCond .ne 11, 3) := dk_154 0 11 (dk_at dksX1_right_0 1 rfl rfl)
theorem dX1_right_4 : decode cX1_right 4 = .ok (.new 7, 3) := dk_187 0 7 (dk_at dksX1_right_0 4 rfl rfl)
theorem dX1_right_7 : decode cX1_right 7 = .ok (.dup, 1) := dk_89 (dk_at dksX1_right_0 7 rfl rfl)
theorem dX1_right_8 : decode cX1_right 8 = .ok (.invokespecial 9, 3) := dk_183 0 9 (dk_at dksX1_right_0 8 rfl rfl)
theorem dX1_right_11 : decode cX1_right 11 = .ok (.athrow, 1) := dk_191 (dk_at dksX1_right_0 11 rfl rfl)
theorem dX1_right_12 : decode cX1_right 12 = .ok (.return_, 1) := dk_177 (dk_at dksX1_right_0 12 rfl rfl)
abbrev cX1_count : ByteArray := prog_1_method_9_code
def yX1_count : MethodName := ⟨RX1, "count", "(I)I"⟩
def dkwX1_count_7 : List UInt8 := [184, 0, 126, 42, 180, 0, 46, 27, 16, 12, 100, 46, 172]
abbrev dktX1_count_7 : List UInt8 := dkwX1_count_7 ++ []
def dkwX1_count_6 : List UInt8 := [172, 42, 180, 0, 56, 185, 0, 99, 1, 0, 172, 42, 180, 0, 59, 172, 27, 16, 12, 16, 14, 184, 0, 122]
abbrev dktX1_count_6 : List UInt8 := dkwX1_count_6 ++ dktX1_count_7
def dkwX1_count_5 : List UInt8 := [4, 42, 180, 0, 22, 180, 0, 89, 120, 4, 100, 182, 0, 118, 172, 42, 180, 0, 52, 185, 0, 99, 1, 0]
abbrev dktX1_count_5 : List UInt8 := dkwX1_count_5 ++ dktX1_count_6
def dkwX1_count_4 : List UInt8 := [180, 0, 31, 182, 0, 110, 172, 42, 180, 0, 31, 182, 0, 113, 172, 42, 180, 0, 31, 182, 0, 116, 172, 42]
abbrev dktX1_count_4 : List UInt8 := dkwX1_count_4 ++ dktX1_count_5
def dkwX1_count_3 : List UInt8 := [185, 0, 99, 1, 0, 172, 42, 180, 0, 22, 180, 0, 104, 172, 42, 180, 0, 31, 180, 0, 107, 172, 42]
abbrev dktX1_count_3 : List UInt8 := dkwX1_count_3 ++ dktX1_count_4
def dkwX1_count_2 : List UInt8 := [42, 180, 0, 22, 180, 0, 89, 172, 42, 180, 0, 22, 182, 0, 92, 172, 42, 180, 0, 22, 180, 0, 96]
abbrev dktX1_count_2 : List UInt8 := dkwX1_count_2 ++ dktX1_count_3
def dkwX1_count_1 : List UInt8 := [170, 0, 0, 0, 0, 0, 173, 0, 0, 0, 0, 0, 0, 0, 11, 0, 0, 0, 63, 0, 0, 0, 71, 0, 0, 0, 79, 0, 0, 0, 92, 0, 0, 0, 100, 0, 0, 0, 108, 0, 0, 0, 116, 0, 0, 0, 124, 0, 0, 0, 132, 0, 0, 0, 148, 0, 0, 0, 158, 0, 0, 0, 168]
abbrev dktX1_count_1 : List UInt8 := dkwX1_count_1 ++ dktX1_count_2
def dkwX1_count_0 : List UInt8 := [27]
abbrev dktX1_count_0 : List UInt8 := dkwX1_count_0 ++ dktX1_count_1
theorem dksX1_count_0 : cX1_count.data.toList.drop 0 = dktX1_count_0 := by decide +kernel
theorem dksX1_count_1 : cX1_count.data.toList.drop 1 = dktX1_count_1 := dk_seg dksX1_count_0 1 rfl rfl
theorem dksX1_count_2 : cX1_count.data.toList.drop 64 = dktX1_count_2 := dk_seg dksX1_count_1 63 rfl rfl
theorem dksX1_count_3 : cX1_count.data.toList.drop 87 = dktX1_count_3 := dk_seg dksX1_count_2 23 rfl rfl
theorem dksX1_count_4 : cX1_count.data.toList.drop 110 = dktX1_count_4 := dk_seg dksX1_count_3 23 rfl rfl
theorem dksX1_count_5 : cX1_count.data.toList.drop 134 = dktX1_count_5 := dk_seg dksX1_count_4 24 rfl rfl
theorem dksX1_count_6 : cX1_count.data.toList.drop 158 = dktX1_count_6 := dk_seg dksX1_count_5 24 rfl rfl
theorem dksX1_count_7 : cX1_count.data.toList.drop 182 = dktX1_count_7 := dk_seg dksX1_count_6 24 rfl rfl
theorem dX1_count_0 : decode cX1_count 0 = .ok (.iload_n 1, 1) := dk_27 (dk_at dksX1_count_0 0 rfl rfl)
theorem dX1_count_1 : decode cX1_count 1 = .ok (.tableswitch 173 0 11 #[63, 71, 79, 92, 100, 108, 116, 124, 132, 148, 158, 168], 63) := by decide +kernel
theorem dX1_count_64 : decode cX1_count 64 = .ok (.aload_n 0, 1) := dk_42 (dk_at dksX1_count_2 0 rfl rfl)
theorem dX1_count_65 : decode cX1_count 65 = .ok (.getfield 22, 3) := dk_180 0 22 (dk_at dksX1_count_2 1 rfl rfl)
theorem dX1_count_68 : decode cX1_count 68 = .ok (.getfield 89, 3) := dk_180 0 89 (dk_at dksX1_count_2 4 rfl rfl)
theorem dX1_count_71 : decode cX1_count 71 = .ok (.ireturn, 1) := dk_172 (dk_at dksX1_count_2 7 rfl rfl)
theorem dX1_count_72 : decode cX1_count 72 = .ok (.aload_n 0, 1) := dk_42 (dk_at dksX1_count_2 8 rfl rfl)
theorem dX1_count_73 : decode cX1_count 73 = .ok (.getfield 22, 3) := dk_180 0 22 (dk_at dksX1_count_2 9 rfl rfl)
theorem dX1_count_76 : decode cX1_count 76 = .ok (.invokevirtual 92, 3) := dk_182 0 92 (dk_at dksX1_count_2 12 rfl rfl)
theorem dX1_count_79 : decode cX1_count 79 = .ok (.ireturn, 1) := dk_172 (dk_at dksX1_count_2 15 rfl rfl)
theorem dX1_count_80 : decode cX1_count 80 = .ok (.aload_n 0, 1) := dk_42 (dk_at dksX1_count_2 16 rfl rfl)
theorem dX1_count_81 : decode cX1_count 81 = .ok (.getfield 22, 3) := dk_180 0 22 (dk_at dksX1_count_2 17 rfl rfl)
theorem dX1_count_84 : decode cX1_count 84 = .ok (.getfield 96, 3) := dk_180 0 96 (dk_at dksX1_count_2 20 rfl rfl)
theorem dX1_count_87 : decode cX1_count 87 = .ok (.invokeinterface 99 1, 5) := by decide +kernel
theorem dX1_count_92 : decode cX1_count 92 = .ok (.ireturn, 1) := dk_172 (dk_at dksX1_count_3 5 rfl rfl)
theorem dX1_count_93 : decode cX1_count 93 = .ok (.aload_n 0, 1) := dk_42 (dk_at dksX1_count_3 6 rfl rfl)
theorem dX1_count_94 : decode cX1_count 94 = .ok (.getfield 22, 3) := dk_180 0 22 (dk_at dksX1_count_3 7 rfl rfl)
theorem dX1_count_97 : decode cX1_count 97 = .ok (.getfield 104, 3) := dk_180 0 104 (dk_at dksX1_count_3 10 rfl rfl)
theorem dX1_count_100 : decode cX1_count 100 = .ok (.ireturn, 1) := dk_172 (dk_at dksX1_count_3 13 rfl rfl)
theorem dX1_count_101 : decode cX1_count 101 = .ok (.aload_n 0, 1) := dk_42 (dk_at dksX1_count_3 14 rfl rfl)
theorem dX1_count_102 : decode cX1_count 102 = .ok (.getfield 31, 3) := dk_180 0 31 (dk_at dksX1_count_3 15 rfl rfl)
theorem dX1_count_105 : decode cX1_count 105 = .ok (.getfield 107, 3) := dk_180 0 107 (dk_at dksX1_count_3 18 rfl rfl)
theorem dX1_count_108 : decode cX1_count 108 = .ok (.ireturn, 1) := dk_172 (dk_at dksX1_count_3 21 rfl rfl)
theorem dX1_count_109 : decode cX1_count 109 = .ok (.aload_n 0, 1) := dk_42 (dk_at dksX1_count_3 22 rfl rfl)
theorem dX1_count_110 : decode cX1_count 110 = .ok (.getfield 31, 3) := dk_180 0 31 (dk_at dksX1_count_4 0 rfl rfl)
theorem dX1_count_113 : decode cX1_count 113 = .ok (.invokevirtual 110, 3) := dk_182 0 110 (dk_at dksX1_count_4 3 rfl rfl)
theorem dX1_count_116 : decode cX1_count 116 = .ok (.ireturn, 1) := dk_172 (dk_at dksX1_count_4 6 rfl rfl)
theorem dX1_count_117 : decode cX1_count 117 = .ok (.aload_n 0, 1) := dk_42 (dk_at dksX1_count_4 7 rfl rfl)
theorem dX1_count_118 : decode cX1_count 118 = .ok (.getfield 31, 3) := dk_180 0 31 (dk_at dksX1_count_4 8 rfl rfl)
theorem dX1_count_121 : decode cX1_count 121 = .ok (.invokevirtual 113, 3) := dk_182 0 113 (dk_at dksX1_count_4 11 rfl rfl)
theorem dX1_count_124 : decode cX1_count 124 = .ok (.ireturn, 1) := dk_172 (dk_at dksX1_count_4 14 rfl rfl)
theorem dX1_count_125 : decode cX1_count 125 = .ok (.aload_n 0, 1) := dk_42 (dk_at dksX1_count_4 15 rfl rfl)
theorem dX1_count_126 : decode cX1_count 126 = .ok (.getfield 31, 3) := dk_180 0 31 (dk_at dksX1_count_4 16 rfl rfl)
theorem dX1_count_129 : decode cX1_count 129 = .ok (.invokevirtual 116, 3) := dk_182 0 116 (dk_at dksX1_count_4 19 rfl rfl)
theorem dX1_count_132 : decode cX1_count 132 = .ok (.ireturn, 1) := dk_172 (dk_at dksX1_count_4 22 rfl rfl)
theorem dX1_count_133 : decode cX1_count 133 = .ok (.aload_n 0, 1) := dk_42 (dk_at dksX1_count_4 23 rfl rfl)
theorem dX1_count_134 : decode cX1_count 134 = .ok (.iconst 1, 1) := dk_4 (dk_at dksX1_count_5 0 rfl rfl)
theorem dX1_count_135 : decode cX1_count 135 = .ok (.aload_n 0, 1) := dk_42 (dk_at dksX1_count_5 1 rfl rfl)
theorem dX1_count_136 : decode cX1_count 136 = .ok (.getfield 22, 3) := dk_180 0 22 (dk_at dksX1_count_5 2 rfl rfl)
theorem dX1_count_139 : decode cX1_count 139 = .ok (.getfield 89, 3) := dk_180 0 89 (dk_at dksX1_count_5 5 rfl rfl)
theorem dX1_count_142 : decode cX1_count 142 = .ok (.ishl, 1) := dk_120 (dk_at dksX1_count_5 8 rfl rfl)
theorem dX1_count_143 : decode cX1_count 143 = .ok (.iconst 1, 1) := dk_4 (dk_at dksX1_count_5 9 rfl rfl)
theorem dX1_count_144 : decode cX1_count 144 = .ok (.isub, 1) := dk_100 (dk_at dksX1_count_5 10 rfl rfl)
theorem dX1_count_145 : decode cX1_count 145 = .ok (.invokevirtual 118, 3) := dk_182 0 118 (dk_at dksX1_count_5 11 rfl rfl)
theorem dX1_count_148 : decode cX1_count 148 = .ok (.ireturn, 1) := dk_172 (dk_at dksX1_count_5 14 rfl rfl)
theorem dX1_count_149 : decode cX1_count 149 = .ok (.aload_n 0, 1) := dk_42 (dk_at dksX1_count_5 15 rfl rfl)
theorem dX1_count_150 : decode cX1_count 150 = .ok (.getfield 52, 3) := dk_180 0 52 (dk_at dksX1_count_5 16 rfl rfl)
theorem dX1_count_153 : decode cX1_count 153 = .ok (.invokeinterface 99 1, 5) := by decide +kernel
theorem dX1_count_158 : decode cX1_count 158 = .ok (.ireturn, 1) := dk_172 (dk_at dksX1_count_6 0 rfl rfl)
theorem dX1_count_159 : decode cX1_count 159 = .ok (.aload_n 0, 1) := dk_42 (dk_at dksX1_count_6 1 rfl rfl)
theorem dX1_count_160 : decode cX1_count 160 = .ok (.getfield 56, 3) := dk_180 0 56 (dk_at dksX1_count_6 2 rfl rfl)
theorem dX1_count_163 : decode cX1_count 163 = .ok (.invokeinterface 99 1, 5) := by decide +kernel
theorem dX1_count_168 : decode cX1_count 168 = .ok (.ireturn, 1) := dk_172 (dk_at dksX1_count_6 10 rfl rfl)
theorem dX1_count_169 : decode cX1_count 169 = .ok (.aload_n 0, 1) := dk_42 (dk_at dksX1_count_6 11 rfl rfl)
theorem dX1_count_170 : decode cX1_count 170 = .ok (.getfield 59, 3) := dk_180 0 59 (dk_at dksX1_count_6 12 rfl rfl)
theorem dX1_count_173 : decode cX1_count 173 = .ok (.ireturn, 1) := dk_172 (dk_at dksX1_count_6 15 rfl rfl)
theorem dX1_count_174 : decode cX1_count 174 = .ok (.iload_n 1, 1) := dk_27 (dk_at dksX1_count_6 16 rfl rfl)
theorem dX1_count_175 : decode cX1_count 175 = .ok (.bipush 12, 2) := dk_16 12 (dk_at dksX1_count_6 17 rfl rfl)
theorem dX1_count_177 : decode cX1_count 177 = .ok (.bipush 14, 2) := dk_16 14 (dk_at dksX1_count_6 19 rfl rfl)
theorem dX1_count_179 : decode cX1_count 179 = .ok (.invokestatic 122, 3) := dk_184 0 122 (dk_at dksX1_count_6 21 rfl rfl)
theorem dX1_count_182 : decode cX1_count 182 = .ok (.invokestatic 126, 3) := dk_184 0 126 (dk_at dksX1_count_7 0 rfl rfl)
theorem dX1_count_185 : decode cX1_count 185 = .ok (.aload_n 0, 1) := dk_42 (dk_at dksX1_count_7 3 rfl rfl)
theorem dX1_count_186 : decode cX1_count 186 = .ok (.getfield 46, 3) := dk_180 0 46 (dk_at dksX1_count_7 4 rfl rfl)
theorem dX1_count_189 : decode cX1_count 189 = .ok (.iload_n 1, 1) := dk_27 (dk_at dksX1_count_7 7 rfl rfl)
theorem dX1_count_190 : decode cX1_count 190 = .ok (.bipush 12, 2) := dk_16 12 (dk_at dksX1_count_7 8 rfl rfl)
theorem dX1_count_192 : decode cX1_count 192 = .ok (.isub, 1) := dk_100 (dk_at dksX1_count_7 10 rfl rfl)
theorem dX1_count_193 : decode cX1_count 193 = .ok (.iaload, 1) := dk_46 (dk_at dksX1_count_7 11 rfl rfl)
theorem dX1_count_194 : decode cX1_count 194 = .ok (.ireturn, 1) := dk_172 (dk_at dksX1_count_7 12 rfl rfl)
abbrev cX1_couples : ByteArray := prog_1_method_44_code
def yX1_couples : MethodName := ⟨RX1, "couples", "(I)I"⟩
def dkwX1_couples_4 : List UInt8 := [96, 184, 1, 14, 54, 4, 132, 5, 1, 167, 255, 185, 21, 4, 172]
abbrev dktX1_couples_4 : List UInt8 := dkwX1_couples_4 ++ []
def dkwX1_couples_3 : List UInt8 := [21, 5, 28, 182, 1, 24, 153, 0, 24, 21, 4, 4, 42, 29, 4, 21, 5, 120, 2, 130, 126, 182, 0, 118]
abbrev dktX1_couples_3 : List UInt8 := dkwX1_couples_3 ++ dktX1_couples_4
def dkwX1_couples_2 : List UInt8 := [184, 0, 171, 153, 0, 50, 42, 180, 0, 31, 28, 21, 5, 182, 1, 24, 154, 0, 16, 42, 180, 0, 31]
abbrev dktX1_couples_2 : List UInt8 := dkwX1_couples_2 ++ dktX1_couples_3
def dkwX1_couples_1 : List UInt8 := [54, 4, 28, 4, 96, 54, 5, 21, 5, 42, 180, 0, 22, 180, 0, 89, 162, 0, 65, 29, 21, 5]
abbrev dktX1_couples_1 : List UInt8 := dkwX1_couples_1 ++ dktX1_couples_2
def dkwX1_couples_0 : List UInt8 := [27, 154, 0, 5, 3, 172, 27, 184, 1, 27, 61, 27, 4, 28, 120, 2, 130, 126, 62, 42, 29, 182, 0, 118]
abbrev dktX1_couples_0 : List UInt8 := dkwX1_couples_0 ++ dktX1_couples_1
theorem dksX1_couples_0 : cX1_couples.data.toList.drop 0 = dktX1_couples_0 := by decide +kernel
theorem dksX1_couples_1 : cX1_couples.data.toList.drop 24 = dktX1_couples_1 := dk_seg dksX1_couples_0 24 rfl rfl
theorem dksX1_couples_2 : cX1_couples.data.toList.drop 46 = dktX1_couples_2 := dk_seg dksX1_couples_1 22 rfl rfl
theorem dksX1_couples_3 : cX1_couples.data.toList.drop 69 = dktX1_couples_3 := dk_seg dksX1_couples_2 23 rfl rfl
theorem dksX1_couples_4 : cX1_couples.data.toList.drop 93 = dktX1_couples_4 := dk_seg dksX1_couples_3 24 rfl rfl
theorem dX1_couples_0 : decode cX1_couples 0 = .ok (.iload_n 1, 1) := dk_27 (dk_at dksX1_couples_0 0 rfl rfl)
theorem dX1_couples_1 : decode cX1_couples 1 = .ok (.ifCond .ne 5, 3) := dk_154 0 5 (dk_at dksX1_couples_0 1 rfl rfl)
theorem dX1_couples_4 : decode cX1_couples 4 = .ok (.iconst 0, 1) := dk_3 (dk_at dksX1_couples_0 4 rfl rfl)
theorem dX1_couples_5 : decode cX1_couples 5 = .ok (.ireturn, 1) := dk_172 (dk_at dksX1_couples_0 5 rfl rfl)
theorem dX1_couples_6 : decode cX1_couples 6 = .ok (.iload_n 1, 1) := dk_27 (dk_at dksX1_couples_0 6 rfl rfl)
theorem dX1_couples_7 : decode cX1_couples 7 = .ok (.invokestatic 283, 3) := dk_184 1 27 (dk_at dksX1_couples_0 7 rfl rfl)
theorem dX1_couples_10 : decode cX1_couples 10 = .ok (.istore_n 2, 1) := dk_61 (dk_at dksX1_couples_0 10 rfl rfl)
theorem dX1_couples_11 : decode cX1_couples 11 = .ok (.iload_n 1, 1) := dk_27 (dk_at dksX1_couples_0 11 rfl rfl)
theorem dX1_couples_12 : decode cX1_couples 12 = .ok (.iconst 1, 1) := dk_4 (dk_at dksX1_couples_0 12 rfl rfl)
theorem dX1_couples_13 : decode cX1_couples 13 = .ok (.iload_n 2, 1) := dk_28 (dk_at dksX1_couples_0 13 rfl rfl)
theorem dX1_couples_14 : decode cX1_couples 14 = .ok (.ishl, 1) := dk_120 (dk_at dksX1_couples_0 14 rfl rfl)
theorem dX1_couples_15 : decode cX1_couples 15 = .ok (.iconst (-1), 1) := dk_2 (dk_at dksX1_couples_0 15 rfl rfl)
theorem dX1_couples_16 : decode cX1_couples 16 = .ok (.ixor, 1) := dk_130 (dk_at dksX1_couples_0 16 rfl rfl)
theorem dX1_couples_17 : decode cX1_couples 17 = .ok (.iand, 1) := dk_126 (dk_at dksX1_couples_0 17 rfl rfl)
theorem dX1_couples_18 : decode cX1_couples 18 = .ok (.istore_n 3, 1) := dk_62 (dk_at dksX1_couples_0 18 rfl rfl)
theorem dX1_couples_19 : decode cX1_couples 19 = .ok (.aload_n 0, 1) := dk_42 (dk_at dksX1_couples_0 19 rfl rfl)
theorem dX1_couples_20 : decode cX1_couples 20 = .ok (.iload_n 3, 1) := dk_29 (dk_at dksX1_couples_0 20 rfl rfl)
theorem dX1_couples_21 : decode cX1_couples 21 = .ok (.invokevirtual 118, 3) := dk_182 0 118 (dk_at dksX1_couples_0 21 rfl rfl)
theorem dX1_couples_24 : decode cX1_couples 24 = .ok (.istore 4, 2) := dk_54 4 (dk_at dksX1_couples_1 0 rfl rfl)
theorem dX1_couples_26 : decode cX1_couples 26 = .ok (.iload_n 2, 1) := dk_28 (dk_at dksX1_couples_1 2 rfl rfl)
theorem dX1_couples_27 : decode cX1_couples 27 = .ok (.iconst 1, 1) := dk_4 (dk_at dksX1_couples_1 3 rfl rfl)
theorem dX1_couples_28 : decode cX1_couples 28 = .ok (.iadd, 1) := dk_96 (dk_at dksX1_couples_1 4 rfl rfl)
theorem dX1_couples_29 : decode cX1_couples 29 = .ok (.istore 5, 2) := dk_54 5 (dk_at dksX1_couples_1 5 rfl rfl)
theorem dX1_couples_31 : decode cX1_couples 31 = .ok (.iload 5, 2) := dk_21 5 (dk_at dksX1_couples_1 7 rfl rfl)
theorem dX1_couples_33 : decode cX1_couples 33 = .ok (.aload_n 0, 1) := dk_42 (dk_at dksX1_couples_1 9 rfl rfl)
theorem dX1_couples_34 : decode cX1_couples 34 = .ok (.getfield 22, 3) := dk_180 0 22 (dk_at dksX1_couples_1 10 rfl rfl)
theorem dX1_couples_37 : decode cX1_couples 37 = .ok (.getfield 89, 3) := dk_180 0 89 (dk_at dksX1_couples_1 13 rfl rfl)
theorem dX1_couples_40 : decode cX1_couples 40 = .ok (.if_icmp .ge 65, 3) := dk_162 0 65 (dk_at dksX1_couples_1 16 rfl rfl)
theorem dX1_couples_43 : decode cX1_couples 43 = .ok (.iload_n 3, 1) := dk_29 (dk_at dksX1_couples_1 19 rfl rfl)
theorem dX1_couples_44 : decode cX1_couples 44 = .ok (.iload 5, 2) := dk_21 5 (dk_at dksX1_couples_1 20 rfl rfl)
theorem dX1_couples_46 : decode cX1_couples 46 = .ok (.invokestatic 171, 3) := dk_184 0 171 (dk_at dksX1_couples_2 0 rfl rfl)
theorem dX1_couples_49 : decode cX1_couples 49 = .ok (.ifCond .eq 50, 3) := dk_153 0 50 (dk_at dksX1_couples_2 3 rfl rfl)
theorem dX1_couples_52 : decode cX1_couples 52 = .ok (.aload_n 0, 1) := dk_42 (dk_at dksX1_couples_2 6 rfl rfl)
theorem dX1_couples_53 : decode cX1_couples 53 = .ok (.getfield 31, 3) := dk_180 0 31 (dk_at dksX1_couples_2 7 rfl rfl)
theorem dX1_couples_56 : decode cX1_couples 56 = .ok (.iload_n 2, 1) := dk_28 (dk_at dksX1_couples_2 10 rfl rfl)
theorem dX1_couples_57 : decode cX1_couples 57 = .ok (.iload 5, 2) := dk_21 5 (dk_at dksX1_couples_2 11 rfl rfl)
theorem dX1_couples_59 : decode cX1_couples 59 = .ok (.invokevirtual 280, 3) := dk_182 1 24 (dk_at dksX1_couples_2 13 rfl rfl)
theorem dX1_couples_62 : decode cX1_couples 62 = .ok (.ifCond .ne 16, 3) := dk_154 0 16 (dk_at dksX1_couples_2 16 rfl rfl)
theorem dX1_couples_65 : decode cX1_couples 65 = .ok (.aload_n 0, 1) := dk_42 (dk_at dksX1_couples_2 19 rfl rfl)
theorem dX1_couples_66 : decode cX1_couples 66 = .ok (.getfield 31, 3) := dk_180 0 31 (dk_at dksX1_couples_2 20 rfl rfl)
theorem dX1_couples_69 : decode cX1_couples 69 = .ok (.iload 5, 2) := dk_21 5 (dk_at dksX1_couples_3 0 rfl rfl)
theorem dX1_couples_71 : decode cX1_couples 71 = .ok (.iload_n 2, 1) := dk_28 (dk_at dksX1_couples_3 2 rfl rfl)
theorem dX1_couples_72 : decode cX1_couples 72 = .ok (.invokevirtual 280, 3) := dk_182 1 24 (dk_at dksX1_couples_3 3 rfl rfl)
theorem dX1_couples_75 : decode cX1_couples 75 = .ok (.ifCond .eq 24, 3) := dk_153 0 24 (dk_at dksX1_couples_3 6 rfl rfl)
theorem dX1_couples_78 : decode cX1_couples 78 = .ok (.iload 4, 2) := dk_21 4 (dk_at dksX1_couples_3 9 rfl rfl)
theorem dX1_couples_80 : decode cX1_couples 80 = .ok (.iconst 1, 1) := dk_4 (dk_at dksX1_couples_3 11 rfl rfl)
theorem dX1_couples_81 : decode cX1_couples 81 = .ok (.aload_n 0, 1) := dk_42 (dk_at dksX1_couples_3 12 rfl rfl)
theorem dX1_couples_82 : decode cX1_couples 82 = .ok (.iload_n 3, 1) := dk_29 (dk_at dksX1_couples_3 13 rfl rfl)
theorem dX1_couples_83 : decode cX1_couples 83 = .ok (.iconst 1, 1) := dk_4 (dk_at dksX1_couples_3 14 rfl rfl)
theorem dX1_couples_84 : decode cX1_couples 84 = .ok (.iload 5, 2) := dk_21 5 (dk_at dksX1_couples_3 15 rfl rfl)
theorem dX1_couples_86 : decode cX1_couples 86 = .ok (.ishl, 1) := dk_120 (dk_at dksX1_couples_3 17 rfl rfl)
theorem dX1_couples_87 : decode cX1_couples 87 = .ok (.iconst (-1), 1) := dk_2 (dk_at dksX1_couples_3 18 rfl rfl)
theorem dX1_couples_88 : decode cX1_couples 88 = .ok (.ixor, 1) := dk_130 (dk_at dksX1_couples_3 19 rfl rfl)
theorem dX1_couples_89 : decode cX1_couples 89 = .ok (.iand, 1) := dk_126 (dk_at dksX1_couples_3 20 rfl rfl)
theorem dX1_couples_90 : decode cX1_couples 90 = .ok (.invokevirtual 118, 3) := dk_182 0 118 (dk_at dksX1_couples_3 21 rfl rfl)
theorem dX1_couples_93 : decode cX1_couples 93 = .ok (.iadd, 1) := dk_96 (dk_at dksX1_couples_4 0 rfl rfl)
theorem dX1_couples_94 : decode cX1_couples 94 = .ok (.invokestatic 270, 3) := dk_184 1 14 (dk_at dksX1_couples_4 1 rfl rfl)
theorem dX1_couples_97 : decode cX1_couples 97 = .ok (.istore 4, 2) := dk_54 4 (dk_at dksX1_couples_4 4 rfl rfl)
theorem dX1_couples_99 : decode cX1_couples 99 = .ok (.iinc 5 1, 3) := dk_132 5 1 (dk_at dksX1_couples_4 6 rfl rfl)
theorem dX1_couples_102 : decode cX1_couples 102 = .ok (.goto (-71), 3) := dk_167 255 185 (dk_at dksX1_couples_4 9 rfl rfl)
theorem dX1_couples_105 : decode cX1_couples 105 = .ok (.iload 4, 2) := dk_21 4 (dk_at dksX1_couples_4 12 rfl rfl)
theorem dX1_couples_107 : decode cX1_couples 107 = .ok (.ireturn, 1) := dk_172 (dk_at dksX1_couples_4 14 rfl rfl)
abbrev cX1_found : ByteArray := prog_1_method_2_code
def yX1_found : MethodName := ⟨RX1, "found", "(Z)V"⟩
def dkwX1_found_0 : List UInt8 := [26, 154, 0, 11, 187, 0, 1, 89, 183, 0, 3, 191, 177]
abbrev dktX1_found_0 : List UInt8 := dkwX1_found_0 ++ []
theorem dksX1_found_0 : cX1_found.data.toList.drop 0 = dktX1_found_0 := by decide +kernel
theorem dX1_found_0 : decode cX1_found 0 = .ok (.iload_n 0, 1) := dk_26 (dk_at dksX1_found_0 0 rfl rfl)
theorem dX1_found_1 : decode cX1_found 1 = .ok (.ifCond .ne 11, 3) := dk_154 0 11 (dk_at dksX1_found_0 1 rfl rfl)
theorem dX1_found_4 : decode cX1_found 4 = .ok (.new 1, 3) := dk_187 0 1 (dk_at dksX1_found_0 4 rfl rfl)
theorem dX1_found_7 : decode cX1_found 7 = .ok (.dup, 1) := dk_89 (dk_at dksX1_found_0 7 rfl rfl)
theorem dX1_found_8 : decode cX1_found 8 = .ok (.invokespecial 3, 3) := dk_183 0 3 (dk_at dksX1_found_0 8 rfl rfl)
theorem dX1_found_11 : decode cX1_found 11 = .ok (.athrow, 1) := dk_191 (dk_at dksX1_found_0 11 rfl rfl)
theorem dX1_found_12 : decode cX1_found 12 = .ok (.return_, 1) := dk_177 (dk_at dksX1_found_0 12 rfl rfl)
abbrev cX1_sheet : ByteArray := prog_1_method_15_code
def yX1_sheet : MethodName := ⟨RX1, "sheet", "(II)I"⟩
def dkwX1_sheet_3 : List UInt8 := [182, 0, 146, 167, 0, 11, 42, 180, 0, 31, 27, 182, 0, 149, 172]
abbrev dktX1_sheet_3 : List UInt8 := dkwX1_sheet_3 ++ []
def dkwX1_sheet_2 : List UInt8 := [160, 0, 14, 42, 180, 0, 31, 27, 182, 0, 143, 167, 0, 27, 28, 6, 160, 0, 14, 42, 180, 0, 31, 27]
abbrev dktX1_sheet_2 : List UInt8 := dkwX1_sheet_2 ++ dktX1_sheet_3
def dkwX1_sheet_1 : List UInt8 := [167, 0, 60, 28, 4, 160, 0, 15, 42, 180, 0, 31, 180, 0, 140, 27, 46, 167, 0, 43, 28, 5]
abbrev dktX1_sheet_1 : List UInt8 := dkwX1_sheet_1 ++ dktX1_sheet_2
def dkwX1_sheet_0 : List UInt8 := [42, 27, 182, 0, 129, 28, 7, 184, 0, 133, 28, 154, 0, 15, 42, 180, 0, 31, 180, 0, 137, 27, 46]
abbrev dktX1_sheet_0 : List UInt8 := dkwX1_sheet_0 ++ dktX1_sheet_1
theorem dksX1_sheet_0 : cX1_sheet.data.toList.drop 0 = dktX1_sheet_0 := by decide +kernel
theorem dksX1_sheet_1 : cX1_sheet.data.toList.drop 23 = dktX1_sheet_1 := dk_seg dksX1_sheet_0 23 rfl rfl
theorem dksX1_sheet_2 : cX1_sheet.data.toList.drop 45 = dktX1_sheet_2 := dk_seg dksX1_sheet_1 22 rfl rfl
theorem dksX1_sheet_3 : cX1_sheet.data.toList.drop 69 = dktX1_sheet_3 := dk_seg dksX1_sheet_2 24 rfl rfl
theorem dX1_sheet_0 : decode cX1_sheet 0 = .ok (.aload_n 0, 1) := dk_42 (dk_at dksX1_sheet_0 0 rfl rfl)
theorem dX1_sheet_1 : decode cX1_sheet 1 = .ok (.iload_n 1, 1) := dk_27 (dk_at dksX1_sheet_0 1 rfl rfl)
theorem dX1_sheet_2 : decode cX1_sheet 2 = .ok (.invokevirtual 129, 3) := dk_182 0 129 (dk_at dksX1_sheet_0 2 rfl rfl)
theorem dX1_sheet_5 : decode cX1_sheet 5 = .ok (.iload_n 2, 1) := dk_28 (dk_at dksX1_sheet_0 5 rfl rfl)
theorem dX1_sheet_6 : decode cX1_sheet 6 = .ok (.iconst 4, 1) := dk_7 (dk_at dksX1_sheet_0 6 rfl rfl)
theorem dX1_sheet_7 : decode cX1_sheet 7 = .ok (.invokestatic 133, 3) := dk_184 0 133 (dk_at dksX1_sheet_0 7 rfl rfl)
theorem dX1_sheet_10 : decode cX1_sheet 10 = .ok (.iload_n 2, 1) := dk_28 (dk_at dksX1_sheet_0 10 rfl rfl)
theorem dX1_sheet_11 : decode cX1_sheet 11 = .ok (.ifCond .ne 15, 3) := dk_154 0 15 (dk_at dksX1_sheet_0 11 rfl rfl)
theorem dX1_sheet_14 : decode cX1_sheet 14 = .ok (.aload_n 0, 1) := dk_42 (dk_at dksX1_sheet_0 14 rfl rfl)
theorem dX1_sheet_15 : decode cX1_sheet 15 = .ok (.getfield 31, 3) := dk_180 0 31 (dk_at dksX1_sheet_0 15 rfl rfl)
theorem dX1_sheet_18 : decode cX1_sheet 18 = .ok (.getfield 137, 3) := dk_180 0 137 (dk_at dksX1_sheet_0 18 rfl rfl)
theorem dX1_sheet_21 : decode cX1_sheet 21 = .ok (.iload_n 1, 1) := dk_27 (dk_at dksX1_sheet_0 21 rfl rfl)
theorem dX1_sheet_22 : decode cX1_sheet 22 = .ok (.iaload, 1) := dk_46 (dk_at dksX1_sheet_0 22 rfl rfl)
theorem dX1_sheet_23 : decode cX1_sheet 23 = .ok (.goto 60, 3) := dk_167 0 60 (dk_at dksX1_sheet_1 0 rfl rfl)
theorem dX1_sheet_26 : decode cX1_sheet 26 = .ok (.iload_n 2, 1) := dk_28 (dk_at dksX1_sheet_1 3 rfl rfl)
theorem dX1_sheet_27 : decode cX1_sheet 27 = .ok (.iconst 1, 1) := dk_4 (dk_at dksX1_sheet_1 4 rfl rfl)
theorem dX1_sheet_28 : decode cX1_sheet 28 = .ok (.if_icmp .ne 15, 3) := dk_160 0 15 (dk_at dksX1_sheet_1 5 rfl rfl)
theorem dX1_sheet_31 : decode cX1_sheet 31 = .ok (.aload_n 0, 1) := dk_42 (dk_at dksX1_sheet_1 8 rfl rfl)
theorem dX1_sheet_32 : decode cX1_sheet 32 = .ok (.getfield 31, 3) := dk_180 0 31 (dk_at dksX1_sheet_1 9 rfl rfl)
theorem dX1_sheet_35 : decode cX1_sheet 35 = .ok (.getfield 140, 3) := dk_180 0 140 (dk_at dksX1_sheet_1 12 rfl rfl)
theorem dX1_sheet_38 : decode cX1_sheet 38 = .ok (.iload_n 1, 1) := dk_27 (dk_at dksX1_sheet_1 15 rfl rfl)
theorem dX1_sheet_39 : decode cX1_sheet 39 = .ok (.iaload, 1) := dk_46 (dk_at dksX1_sheet_1 16 rfl rfl)
theorem dX1_sheet_40 : decode cX1_sheet 40 = .ok (.goto 43, 3) := dk_167 0 43 (dk_at dksX1_sheet_1 17 rfl rfl)
theorem dX1_sheet_43 : decode cX1_sheet 43 = .ok (.iload_n 2, 1) := dk_28 (dk_at dksX1_sheet_1 20 rfl rfl)
theorem dX1_sheet_44 : decode cX1_sheet 44 = .ok (.iconst 2, 1) := dk_5 (dk_at dksX1_sheet_1 21 rfl rfl)
theorem dX1_sheet_45 : decode cX1_sheet 45 = .ok (.if_icmp .ne 14, 3) := dk_160 0 14 (dk_at dksX1_sheet_2 0 rfl rfl)
theorem dX1_sheet_48 : decode cX1_sheet 48 = .ok (.aload_n 0, 1) := dk_42 (dk_at dksX1_sheet_2 3 rfl rfl)
theorem dX1_sheet_49 : decode cX1_sheet 49 = .ok (.getfield 31, 3) := dk_180 0 31 (dk_at dksX1_sheet_2 4 rfl rfl)
theorem dX1_sheet_52 : decode cX1_sheet 52 = .ok (.iload_n 1, 1) := dk_27 (dk_at dksX1_sheet_2 7 rfl rfl)
theorem dX1_sheet_53 : decode cX1_sheet 53 = .ok (.invokevirtual 143, 3) := dk_182 0 143 (dk_at dksX1_sheet_2 8 rfl rfl)
theorem dX1_sheet_56 : decode cX1_sheet 56 = .ok (.goto 27, 3) := dk_167 0 27 (dk_at dksX1_sheet_2 11 rfl rfl)
theorem dX1_sheet_59 : decode cX1_sheet 59 = .ok (.iload_n 2, 1) := dk_28 (dk_at dksX1_sheet_2 14 rfl rfl)
theorem dX1_sheet_60 : decode cX1_sheet 60 = .ok (.iconst 3, 1) := dk_6 (dk_at dksX1_sheet_2 15 rfl rfl)
theorem dX1_sheet_61 : decode cX1_sheet 61 = .ok (.if_icmp .ne 14, 3) := dk_160 0 14 (dk_at dksX1_sheet_2 16 rfl rfl)
theorem dX1_sheet_64 : decode cX1_sheet 64 = .ok (.aload_n 0, 1) := dk_42 (dk_at dksX1_sheet_2 19 rfl rfl)
theorem dX1_sheet_65 : decode cX1_sheet 65 = .ok (.getfield 31, 3) := dk_180 0 31 (dk_at dksX1_sheet_2 20 rfl rfl)
theorem dX1_sheet_68 : decode cX1_sheet 68 = .ok (.iload_n 1, 1) := dk_27 (dk_at dksX1_sheet_2 23 rfl rfl)
theorem dX1_sheet_69 : decode cX1_sheet 69 = .ok (.invokevirtual 146, 3) := dk_182 0 146 (dk_at dksX1_sheet_3 0 rfl rfl)
theorem dX1_sheet_72 : decode cX1_sheet 72 = .ok (.goto 11, 3) := dk_167 0 11 (dk_at dksX1_sheet_3 3 rfl rfl)
theorem dX1_sheet_75 : decode cX1_sheet 75 = .ok (.aload_n 0, 1) := dk_42 (dk_at dksX1_sheet_3 6 rfl rfl)
theorem dX1_sheet_76 : decode cX1_sheet 76 = .ok (.getfield 31, 3) := dk_180 0 31 (dk_at dksX1_sheet_3 7 rfl rfl)
theorem dX1_sheet_79 : decode cX1_sheet 79 = .ok (.iload_n 1, 1) := dk_27 (dk_at dksX1_sheet_3 10 rfl rfl)
theorem dX1_sheet_80 : decode cX1_sheet 80 = .ok (.invokevirtual 149, 3) := dk_182 0 149 (dk_at dksX1_sheet_3 11 rfl rfl)
theorem dX1_sheet_83 : decode cX1_sheet 83 = .ok (.ireturn, 1) := dk_172 (dk_at dksX1_sheet_3 14 rfl rfl)
abbrev cX1_aSheet : ByteArray := prog_1_method_10_code
def yX1_aSheet : MethodName := ⟨RX1, "aSheet", "(I)V"⟩
def dkwX1_aSheet_0 : List UInt8 := [27, 3, 42, 180, 0, 22, 180, 0, 89, 4, 100, 184, 0, 122, 184, 0, 126, 177]
abbrev dktX1_aSheet_0 : List UInt8 := dkwX1_aSheet_0 ++ []
theorem dksX1_aSheet_0 : cX1_aSheet.data.toList.drop 0 = dktX1_aSheet_0 := by decide +kernel
theorem dX1_aSheet_0 : decode cX1_aSheet 0 = .ok (.iload_n 1, 1) := dk_27 (dk_at dksX1_aSheet_0 0 rfl rfl)
theorem dX1_aSheet_1 : decode cX1_aSheet 1 = .ok (.iconst 0, 1) := dk_3 (dk_at dksX1_aSheet_0 1 rfl rfl)
theorem dX1_aSheet_2 : decode cX1_aSheet 2 = .ok (.aload_n 0, 1) := dk_42 (dk_at dksX1_aSheet_0 2 rfl rfl)
theorem dX1_aSheet_3 : decode cX1_aSheet 3 = .ok (.getfield 22, 3) := dk_180 0 22 (dk_at dksX1_aSheet_0 3 rfl rfl)
theorem dX1_aSheet_6 : decode cX1_aSheet 6 = .ok (.getfield 89, 3) := dk_180 0 89 (dk_at dksX1_aSheet_0 6 rfl rfl)
theorem dX1_aSheet_9 : decode cX1_aSheet 9 = .ok (.iconst 1, 1) := dk_4 (dk_at dksX1_aSheet_0 9 rfl rfl)
theorem dX1_aSheet_10 : decode cX1_aSheet 10 = .ok (.isub, 1) := dk_100 (dk_at dksX1_aSheet_0 10 rfl rfl)
theorem dX1_aSheet_11 : decode cX1_aSheet 11 = .ok (.invokestatic 122, 3) := dk_184 0 122 (dk_at dksX1_aSheet_0 11 rfl rfl)
theorem dX1_aSheet_14 : decode cX1_aSheet 14 = .ok (.invokestatic 126, 3) := dk_184 0 126 (dk_at dksX1_aSheet_0 14 rfl rfl)
theorem dX1_aSheet_17 : decode cX1_aSheet 17 = .ok (.return_, 1) := dk_177 (dk_at dksX1_aSheet_0 17 rfl rfl)
abbrev cX1_oneOf : ByteArray := prog_1_method_14_code
def yX1_oneOf : MethodName := ⟨RX1, "oneOf", "(II)V"⟩
def dkwX1_oneOf_0 : List UInt8 := [26, 3, 27, 184, 0, 122, 184, 0, 126, 177]
abbrev dktX1_oneOf_0 : List UInt8 := dkwX1_oneOf_0 ++ []
theorem dksX1_oneOf_0 : cX1_oneOf.data.toList.drop 0 = dktX1_oneOf_0 := by decide +kernel
theorem dX1_oneOf_0 : decode cX1_oneOf 0 = .ok (.iload_n 0, 1) := dk_26 (dk_at dksX1_oneOf_0 0 rfl rfl)
theorem dX1_oneOf_1 : decode cX1_oneOf 1 = .ok (.iconst 0, 1) := dk_3 (dk_at dksX1_oneOf_0 1 rfl rfl)
theorem dX1_oneOf_2 : decode cX1_oneOf 2 = .ok (.iload_n 1, 1) := dk_27 (dk_at dksX1_oneOf_0 2 rfl rfl)
theorem dX1_oneOf_3 : decode cX1_oneOf 3 = .ok (.invokestatic 122, 3) := dk_184 0 122 (dk_at dksX1_oneOf_0 3 rfl rfl)
theorem dX1_oneOf_6 : decode cX1_oneOf 6 = .ok (.invokestatic 126, 3) := dk_184 0 126 (dk_at dksX1_oneOf_0 6 rfl rfl)
theorem dX1_oneOf_9 : decode cX1_oneOf 9 = .ok (.return_, 1) := dk_177 (dk_at dksX1_oneOf_0 9 rfl rfl)
abbrev cX1_clerk : ByteArray := prog_1_method_16_code
def yX1_clerk : MethodName := ⟨RX1, "clerk", "(II)I"⟩
def dkwX1_clerk_3 : List UInt8 := [185, 0, 167, 2, 0, 192, 0, 100, 185, 0, 99, 1, 0, 172]
abbrev dktX1_clerk_3 : List UInt8 := dkwX1_clerk_3 ++ []
def dkwX1_clerk_2 : List UInt8 := [160, 0, 14, 42, 180, 0, 31, 27, 182, 0, 161, 167, 0, 24, 42, 180, 0, 22, 180, 0, 164, 27]
abbrev dktX1_clerk_2 : List UInt8 := dkwX1_clerk_2 ++ dktX1_clerk_3
def dkwX1_clerk_1 : List UInt8 := [167, 0, 57, 28, 4, 160, 0, 15, 42, 180, 0, 31, 180, 0, 158, 27, 46, 167, 0, 40, 28, 5]
abbrev dktX1_clerk_1 : List UInt8 := dkwX1_clerk_1 ++ dktX1_clerk_2
def dkwX1_clerk_0 : List UInt8 := [42, 27, 182, 0, 152, 28, 6, 184, 0, 133, 28, 154, 0, 14, 42, 180, 0, 31, 27, 182, 0, 155]
abbrev dktX1_clerk_0 : List UInt8 := dkwX1_clerk_0 ++ dktX1_clerk_1
theorem dksX1_clerk_0 : cX1_clerk.data.toList.drop 0 = dktX1_clerk_0 := by decide +kernel
theorem dksX1_clerk_1 : cX1_clerk.data.toList.drop 22 = dktX1_clerk_1 := dk_seg dksX1_clerk_0 22 rfl rfl
theorem dksX1_clerk_2 : cX1_clerk.data.toList.drop 44 = dktX1_clerk_2 := dk_seg dksX1_clerk_1 22 rfl rfl
theorem dksX1_clerk_3 : cX1_clerk.data.toList.drop 66 = dktX1_clerk_3 := dk_seg dksX1_clerk_2 22 rfl rfl
theorem dX1_clerk_0 : decode cX1_clerk 0 = .ok (.aload_n 0, 1) := dk_42 (dk_at dksX1_clerk_0 0 rfl rfl)
theorem dX1_clerk_1 : decode cX1_clerk 1 = .ok (.iload_n 1, 1) := dk_27 (dk_at dksX1_clerk_0 1 rfl rfl)
theorem dX1_clerk_2 : decode cX1_clerk 2 = .ok (.invokevirtual 152, 3) := dk_182 0 152 (dk_at dksX1_clerk_0 2 rfl rfl)
theorem dX1_clerk_5 : decode cX1_clerk 5 = .ok (.iload_n 2, 1) := dk_28 (dk_at dksX1_clerk_0 5 rfl rfl)
theorem dX1_clerk_6 : decode cX1_clerk 6 = .ok (.iconst 3, 1) := dk_6 (dk_at dksX1_clerk_0 6 rfl rfl)
theorem dX1_clerk_7 : decode cX1_clerk 7 = .ok (.invokestatic 133, 3) := dk_184 0 133 (dk_at dksX1_clerk_0 7 rfl rfl)
theorem dX1_clerk_10 : decode cX1_clerk 10 = .ok (.iload_n 2, 1) := dk_28 (dk_at dksX1_clerk_0 10 rfl rfl)
theorem dX1_clerk_11 : decode cX1_clerk 11 = .ok (.ifCond .ne 14, 3) := dk_154 0 14 (dk_at dksX1_clerk_0 11 rfl rfl)
theorem dX1_clerk_14 : decode cX1_clerk 14 = .ok (.aload_n 0, 1) := dk_42 (dk_at dksX1_clerk_0 14 rfl rfl)
theorem dX1_clerk_15 : decode cX1_clerk 15 = .ok (.getfield 31, 3) := dk_180 0 31 (dk_at dksX1_clerk_0 15 rfl rfl)
theorem dX1_clerk_18 : decode cX1_clerk 18 = .ok (.iload_n 1, 1) := dk_27 (dk_at dksX1_clerk_0 18 rfl rfl)
theorem dX1_clerk_19 : decode cX1_clerk 19 = .ok (.invokevirtual 155, 3) := dk_182 0 155 (dk_at dksX1_clerk_0 19 rfl rfl)
theorem dX1_clerk_22 : decode cX1_clerk 22 = .ok (.goto 57, 3) := dk_167 0 57 (dk_at dksX1_clerk_1 0 rfl rfl)
theorem dX1_clerk_25 : decode cX1_clerk 25 = .ok (.iload_n 2, 1) := dk_28 (dk_at dksX1_clerk_1 3 rfl rfl)
theorem dX1_clerk_26 : decode cX1_clerk 26 = .ok (.iconst 1, 1) := dk_4 (dk_at dksX1_clerk_1 4 rfl rfl)
theorem dX1_clerk_27 : decode cX1_clerk 27 = .ok (.if_icmp .ne 15, 3) := dk_160 0 15 (dk_at dksX1_clerk_1 5 rfl rfl)
theorem dX1_clerk_30 : decode cX1_clerk 30 = .ok (.aload_n 0, 1) := dk_42 (dk_at dksX1_clerk_1 8 rfl rfl)
theorem dX1_clerk_31 : decode cX1_clerk 31 = .ok (.getfield 31, 3) := dk_180 0 31 (dk_at dksX1_clerk_1 9 rfl rfl)
theorem dX1_clerk_34 : decode cX1_clerk 34 = .ok (.getfield 158, 3) := dk_180 0 158 (dk_at dksX1_clerk_1 12 rfl rfl)
theorem dX1_clerk_37 : decode cX1_clerk 37 = .ok (.iload_n 1, 1) := dk_27 (dk_at dksX1_clerk_1 15 rfl rfl)
theorem dX1_clerk_38 : decode cX1_clerk 38 = .ok (.iaload, 1) := dk_46 (dk_at dksX1_clerk_1 16 rfl rfl)
theorem dX1_clerk_39 : decode cX1_clerk 39 = .ok (.goto 40, 3) := dk_167 0 40 (dk_at dksX1_clerk_1 17 rfl rfl)
theorem dX1_clerk_42 : decode cX1_clerk 42 = .ok (.iload_n 2, 1) := dk_28 (dk_at dksX1_clerk_1 20 rfl rfl)
theorem dX1_clerk_43 : decode cX1_clerk 43 = .ok (.iconst 2, 1) := dk_5 (dk_at dksX1_clerk_1 21 rfl rfl)
theorem dX1_clerk_44 : decode cX1_clerk 44 = .ok (.if_icmp .ne 14, 3) := dk_160 0 14 (dk_at dksX1_clerk_2 0 rfl rfl)
theorem dX1_clerk_47 : decode cX1_clerk 47 = .ok (.aload_n 0, 1) := dk_42 (dk_at dksX1_clerk_2 3 rfl rfl)
theorem dX1_clerk_48 : decode cX1_clerk 48 = .ok (.getfield 31, 3) := dk_180 0 31 (dk_at dksX1_clerk_2 4 rfl rfl)
theorem dX1_clerk_51 : decode cX1_clerk 51 = .ok (.iload_n 1, 1) := dk_27 (dk_at dksX1_clerk_2 7 rfl rfl)
theorem dX1_clerk_52 : decode cX1_clerk 52 = .ok (.invokevirtual 161, 3) := dk_182 0 161 (dk_at dksX1_clerk_2 8 rfl rfl)
theorem dX1_clerk_55 : decode cX1_clerk 55 = .ok (.goto 24, 3) := dk_167 0 24 (dk_at dksX1_clerk_2 11 rfl rfl)
theorem dX1_clerk_58 : decode cX1_clerk 58 = .ok (.aload_n 0, 1) := dk_42 (dk_at dksX1_clerk_2 14 rfl rfl)
theorem dX1_clerk_59 : decode cX1_clerk 59 = .ok (.getfield 22, 3) := dk_180 0 22 (dk_at dksX1_clerk_2 15 rfl rfl)
theorem dX1_clerk_62 : decode cX1_clerk 62 = .ok (.getfield 164, 3) := dk_180 0 164 (dk_at dksX1_clerk_2 18 rfl rfl)
theorem dX1_clerk_65 : decode cX1_clerk 65 = .ok (.iload_n 1, 1) := dk_27 (dk_at dksX1_clerk_2 21 rfl rfl)
theorem dX1_clerk_66 : decode cX1_clerk 66 = .ok (.invokeinterface 167 2, 5) := by decide +kernel
theorem dX1_clerk_71 : decode cX1_clerk 71 = .ok (.checkcast 100, 3) := dk_192 0 100 (dk_at dksX1_clerk_3 5 rfl rfl)
theorem dX1_clerk_74 : decode cX1_clerk 74 = .ok (.invokeinterface 99 1, 5) := by decide +kernel
theorem dX1_clerk_79 : decode cX1_clerk 79 = .ok (.ireturn, 1) := dk_172 (dk_at dksX1_clerk_3 13 rfl rfl)
abbrev cX1_aClerk : ByteArray := prog_1_method_11_code
def yX1_aClerk : MethodName := ⟨RX1, "aClerk", "(I)V"⟩
def dkwX1_aClerk_0 : List UInt8 := [27, 3, 42, 180, 0, 22, 182, 0, 92, 4, 100, 184, 0, 122, 184, 0, 126, 177]
abbrev dktX1_aClerk_0 : List UInt8 := dkwX1_aClerk_0 ++ []
theorem dksX1_aClerk_0 : cX1_aClerk.data.toList.drop 0 = dktX1_aClerk_0 := by decide +kernel
theorem dX1_aClerk_0 : decode cX1_aClerk 0 = .ok (.iload_n 1, 1) := dk_27 (dk_at dksX1_aClerk_0 0 rfl rfl)
theorem dX1_aClerk_1 : decode cX1_aClerk 1 = .ok (.iconst 0, 1) := dk_3 (dk_at dksX1_aClerk_0 1 rfl rfl)
theorem dX1_aClerk_2 : decode cX1_aClerk 2 = .ok (.aload_n 0, 1) := dk_42 (dk_at dksX1_aClerk_0 2 rfl rfl)
theorem dX1_aClerk_3 : decode cX1_aClerk 3 = .ok (.getfield 22, 3) := dk_180 0 22 (dk_at dksX1_aClerk_0 3 rfl rfl)
theorem dX1_aClerk_6 : decode cX1_aClerk 6 = .ok (.invokevirtual 92, 3) := dk_182 0 92 (dk_at dksX1_aClerk_0 6 rfl rfl)
theorem dX1_aClerk_9 : decode cX1_aClerk 9 = .ok (.iconst 1, 1) := dk_4 (dk_at dksX1_aClerk_0 9 rfl rfl)
theorem dX1_aClerk_10 : decode cX1_aClerk 10 = .ok (.isub, 1) := dk_100 (dk_at dksX1_aClerk_0 10 rfl rfl)
theorem dX1_aClerk_11 : decode cX1_aClerk 11 = .ok (.invokestatic 122, 3) := dk_184 0 122 (dk_at dksX1_aClerk_0 11 rfl rfl)
theorem dX1_aClerk_14 : decode cX1_aClerk 14 = .ok (.invokestatic 126, 3) := dk_184 0 126 (dk_at dksX1_aClerk_0 14 rfl rfl)
theorem dX1_aClerk_17 : decode cX1_aClerk 17 = .ok (.return_, 1) := dk_177 (dk_at dksX1_aClerk_0 17 rfl rfl)
abbrev cX1_word : ByteArray := prog_1_method_19_code
def yX1_word : MethodName := ⟨RX1, "word", "(II)I"⟩
def dkwX1_word_2 : List UInt8 := [167, 0, 8, 42, 27, 182, 0, 185, 172]
abbrev dktX1_word_2 : List UInt8 := dkwX1_word_2 ++ []
def dkwX1_word_1 : List UInt8 := [185, 0, 167, 2, 0, 192, 0, 175, 28, 46, 167, 0, 21, 28, 5, 160, 0, 11, 42, 27, 182, 0, 182]
abbrev dktX1_word_1 : List UInt8 := dkwX1_word_1 ++ dktX1_word_2
def dkwX1_word_0 : List UInt8 := [42, 27, 182, 0, 179, 28, 6, 184, 0, 133, 28, 5, 162, 0, 24, 42, 180, 0, 22, 180, 0, 96, 27]
abbrev dktX1_word_0 : List UInt8 := dkwX1_word_0 ++ dktX1_word_1
theorem dksX1_word_0 : cX1_word.data.toList.drop 0 = dktX1_word_0 := by decide +kernel
theorem dksX1_word_1 : cX1_word.data.toList.drop 23 = dktX1_word_1 := dk_seg dksX1_word_0 23 rfl rfl
theorem dksX1_word_2 : cX1_word.data.toList.drop 46 = dktX1_word_2 := dk_seg dksX1_word_1 23 rfl rfl
theorem dX1_word_0 : decode cX1_word 0 = .ok (.aload_n 0, 1) := dk_42 (dk_at dksX1_word_0 0 rfl rfl)
theorem dX1_word_1 : decode cX1_word 1 = .ok (.iload_n 1, 1) := dk_27 (dk_at dksX1_word_0 1 rfl rfl)
theorem dX1_word_2 : decode cX1_word 2 = .ok (.invokevirtual 179, 3) := dk_182 0 179 (dk_at dksX1_word_0 2 rfl rfl)
theorem dX1_word_5 : decode cX1_word 5 = .ok (.iload_n 2, 1) := dk_28 (dk_at dksX1_word_0 5 rfl rfl)
theorem dX1_word_6 : decode cX1_word 6 = .ok (.iconst 3, 1) := dk_6 (dk_at dksX1_word_0 6 rfl rfl)
theorem dX1_word_7 : decode cX1_word 7 = .ok (.invokestatic 133, 3) := dk_184 0 133 (dk_at dksX1_word_0 7 rfl rfl)
theorem dX1_word_10 : decode cX1_word 10 = .ok (.iload_n 2, 1) := dk_28 (dk_at dksX1_word_0 10 rfl rfl)
theorem dX1_word_11 : decode cX1_word 11 = .ok (.iconst 2, 1) := dk_5 (dk_at dksX1_word_0 11 rfl rfl)
theorem dX1_word_12 : decode cX1_word 12 = .ok (.if_icmp .ge 24, 3) := dk_162 0 24 (dk_at dksX1_word_0 12 rfl rfl)
theorem dX1_word_15 : decode cX1_word 15 = .ok (.aload_n 0, 1) := dk_42 (dk_at dksX1_word_0 15 rfl rfl)
theorem dX1_word_16 : decode cX1_word 16 = .ok (.getfield 22, 3) := dk_180 0 22 (dk_at dksX1_word_0 16 rfl rfl)
theorem dX1_word_19 : decode cX1_word 19 = .ok (.getfield 96, 3) := dk_180 0 96 (dk_at dksX1_word_0 19 rfl rfl)
theorem dX1_word_22 : decode cX1_word 22 = .ok (.iload_n 1, 1) := dk_27 (dk_at dksX1_word_0 22 rfl rfl)
theorem dX1_word_23 : decode cX1_word 23 = .ok (.invokeinterface 167 2, 5) := by decide +kernel
theorem dX1_word_28 : decode cX1_word 28 = .ok (.checkcast 175, 3) := dk_192 0 175 (dk_at dksX1_word_1 5 rfl rfl)
theorem dX1_word_31 : decode cX1_word 31 = .ok (.iload_n 2, 1) := dk_28 (dk_at dksX1_word_1 8 rfl rfl)
theorem dX1_word_32 : decode cX1_word 32 = .ok (.iaload, 1) := dk_46 (dk_at dksX1_word_1 9 rfl rfl)
theorem dX1_word_33 : decode cX1_word 33 = .ok (.goto 21, 3) := dk_167 0 21 (dk_at dksX1_word_1 10 rfl rfl)
theorem dX1_word_36 : decode cX1_word 36 = .ok (.iload_n 2, 1) := dk_28 (dk_at dksX1_word_1 13 rfl rfl)
theorem dX1_word_37 : decode cX1_word 37 = .ok (.iconst 2, 1) := dk_5 (dk_at dksX1_word_1 14 rfl rfl)
theorem dX1_word_38 : decode cX1_word 38 = .ok (.if_icmp .ne 11, 3) := dk_160 0 11 (dk_at dksX1_word_1 15 rfl rfl)
theorem dX1_word_41 : decode cX1_word 41 = .ok (.aload_n 0, 1) := dk_42 (dk_at dksX1_word_1 18 rfl rfl)
theorem dX1_word_42 : decode cX1_word 42 = .ok (.iload_n 1, 1) := dk_27 (dk_at dksX1_word_1 19 rfl rfl)
theorem dX1_word_43 : decode cX1_word 43 = .ok (.invokevirtual 182, 3) := dk_182 0 182 (dk_at dksX1_word_1 20 rfl rfl)
theorem dX1_word_46 : decode cX1_word 46 = .ok (.goto 8, 3) := dk_167 0 8 (dk_at dksX1_word_2 0 rfl rfl)
theorem dX1_word_49 : decode cX1_word 49 = .ok (.aload_n 0, 1) := dk_42 (dk_at dksX1_word_2 3 rfl rfl)
theorem dX1_word_50 : decode cX1_word 50 = .ok (.iload_n 1, 1) := dk_27 (dk_at dksX1_word_2 4 rfl rfl)
theorem dX1_word_51 : decode cX1_word 51 = .ok (.invokevirtual 185, 3) := dk_182 0 185 (dk_at dksX1_word_2 5 rfl rfl)
theorem dX1_word_54 : decode cX1_word 54 = .ok (.ireturn, 1) := dk_172 (dk_at dksX1_word_2 8 rfl rfl)
abbrev cX1_aWord : ByteArray := prog_1_method_12_code
def yX1_aWord : MethodName := ⟨RX1, "aWord", "(I)V"⟩
def dkwX1_aWord_0 : List UInt8 := [27, 3, 42, 180, 0, 22, 180, 0, 96, 185, 0, 99, 1, 0, 4, 100, 184, 0, 122, 184, 0, 126, 177]
abbrev dktX1_aWord_0 : List UInt8 := dkwX1_aWord_0 ++ []
theorem dksX1_aWord_0 : cX1_aWord.data.toList.drop 0 = dktX1_aWord_0 := by decide +kernel
theorem dX1_aWord_0 : decode cX1_aWord 0 = .ok (.iload_n 1, 1) := dk_27 (dk_at dksX1_aWord_0 0 rfl rfl)
theorem dX1_aWord_1 : decode cX1_aWord 1 = .ok (.iconst 0, 1) := dk_3 (dk_at dksX1_aWord_0 1 rfl rfl)
theorem dX1_aWord_2 : decode cX1_aWord 2 = .ok (.aload_n 0, 1) := dk_42 (dk_at dksX1_aWord_0 2 rfl rfl)
theorem dX1_aWord_3 : decode cX1_aWord 3 = .ok (.getfield 22, 3) := dk_180 0 22 (dk_at dksX1_aWord_0 3 rfl rfl)
theorem dX1_aWord_6 : decode cX1_aWord 6 = .ok (.getfield 96, 3) := dk_180 0 96 (dk_at dksX1_aWord_0 6 rfl rfl)
theorem dX1_aWord_9 : decode cX1_aWord 9 = .ok (.invokeinterface 99 1, 5) := by decide +kernel
theorem dX1_aWord_14 : decode cX1_aWord 14 = .ok (.iconst 1, 1) := dk_4 (dk_at dksX1_aWord_0 14 rfl rfl)
theorem dX1_aWord_15 : decode cX1_aWord 15 = .ok (.isub, 1) := dk_100 (dk_at dksX1_aWord_0 15 rfl rfl)
theorem dX1_aWord_16 : decode cX1_aWord 16 = .ok (.invokestatic 122, 3) := dk_184 0 122 (dk_at dksX1_aWord_0 16 rfl rfl)
theorem dX1_aWord_19 : decode cX1_aWord 19 = .ok (.invokestatic 126, 3) := dk_184 0 126 (dk_at dksX1_aWord_0 19 rfl rfl)
theorem dX1_aWord_22 : decode cX1_aWord 22 = .ok (.return_, 1) := dk_177 (dk_at dksX1_aWord_0 22 rfl rfl)
abbrev cX1_showsAt : ByteArray := prog_1_method_18_code
def yX1_showsAt : MethodName := ⟨RX1, "showsAt", "(I)I"⟩
def dkwX1_showsAt_2 : List UInt8 := [28, 167, 0, 4, 2, 172]
abbrev dktX1_showsAt_2 : List UInt8 := dkwX1_showsAt_2 ++ []
def dkwX1_showsAt_1 : List UInt8 := [182, 0, 143, 61, 28, 2, 159, 0, 22, 42, 180, 0, 31, 28, 182, 0, 176, 27, 184, 0, 171, 153, 0, 7]
abbrev dktX1_showsAt_1 : List UInt8 := dkwX1_showsAt_1 ++ dktX1_showsAt_2
def dkwX1_showsAt_0 : List UInt8 := [42, 180, 0, 31, 42, 180, 0, 22, 180, 0, 96, 27, 185, 0, 167, 2, 0, 192, 0, 175, 3, 46]
abbrev dktX1_showsAt_0 : List UInt8 := dkwX1_showsAt_0 ++ dktX1_showsAt_1
theorem dksX1_showsAt_0 : cX1_showsAt.data.toList.drop 0 = dktX1_showsAt_0 := by decide +kernel
theorem dksX1_showsAt_1 : cX1_showsAt.data.toList.drop 22 = dktX1_showsAt_1 := dk_seg dksX1_showsAt_0 22 rfl rfl
theorem dksX1_showsAt_2 : cX1_showsAt.data.toList.drop 46 = dktX1_showsAt_2 := dk_seg dksX1_showsAt_1 24 rfl rfl
theorem dX1_showsAt_0 : decode cX1_showsAt 0 = .ok (.aload_n 0, 1) := dk_42 (dk_at dksX1_showsAt_0 0 rfl rfl)
theorem dX1_showsAt_1 : decode cX1_showsAt 1 = .ok (.getfield 31, 3) := dk_180 0 31 (dk_at dksX1_showsAt_0 1 rfl rfl)
theorem dX1_showsAt_4 : decode cX1_showsAt 4 = .ok (.aload_n 0, 1) := dk_42 (dk_at dksX1_showsAt_0 4 rfl rfl)
theorem dX1_showsAt_5 : decode cX1_showsAt 5 = .ok (.getfield 22, 3) := dk_180 0 22 (dk_at dksX1_showsAt_0 5 rfl rfl)
theorem dX1_showsAt_8 : decode cX1_showsAt 8 = .ok (.getfield 96, 3) := dk_180 0 96 (dk_at dksX1_showsAt_0 8 rfl rfl)
theorem dX1_showsAt_11 : decode cX1_showsAt 11 = .ok (.iload_n 1, 1) := dk_27 (dk_at dksX1_showsAt_0 11 rfl rfl)
theorem dX1_showsAt_12 : decode cX1_showsAt 12 = .ok (.invokeinterface 167 2, 5) := by decide +kernel
theorem dX1_showsAt_17 : decode cX1_showsAt 17 = .ok (.checkcast 175, 3) := dk_192 0 175 (dk_at dksX1_showsAt_0 17 rfl rfl)
theorem dX1_showsAt_20 : decode cX1_showsAt 20 = .ok (.iconst 0, 1) := dk_3 (dk_at dksX1_showsAt_0 20 rfl rfl)
theorem dX1_showsAt_21 : decode cX1_showsAt 21 = .ok (.iaload, 1) := dk_46 (dk_at dksX1_showsAt_0 21 rfl rfl)
theorem dX1_showsAt_22 : decode cX1_showsAt 22 = .ok (.invokevirtual 143, 3) := dk_182 0 143 (dk_at dksX1_showsAt_1 0 rfl rfl)
theorem dX1_showsAt_25 : decode cX1_showsAt 25 = .ok (.istore_n 2, 1) := dk_61 (dk_at dksX1_showsAt_1 3 rfl rfl)
theorem dX1_showsAt_26 : decode cX1_showsAt 26 = .ok (.iload_n 2, 1) := dk_28 (dk_at dksX1_showsAt_1 4 rfl rfl)
theorem dX1_showsAt_27 : decode cX1_showsAt 27 = .ok (.iconst (-1), 1) := dk_2 (dk_at dksX1_showsAt_1 5 rfl rfl)
theorem dX1_showsAt_28 : decode cX1_showsAt 28 = .ok (.if_icmp .eq 22, 3) := dk_159 0 22 (dk_at dksX1_showsAt_1 6 rfl rfl)
theorem dX1_showsAt_31 : decode cX1_showsAt 31 = .ok (.aload_n 0, 1) := dk_42 (dk_at dksX1_showsAt_1 9 rfl rfl)
theorem dX1_showsAt_32 : decode cX1_showsAt 32 = .ok (.getfield 31, 3) := dk_180 0 31 (dk_at dksX1_showsAt_1 10 rfl rfl)
theorem dX1_showsAt_35 : decode cX1_showsAt 35 = .ok (.iload_n 2, 1) := dk_28 (dk_at dksX1_showsAt_1 13 rfl rfl)
theorem dX1_showsAt_36 : decode cX1_showsAt 36 = .ok (.invokevirtual 176, 3) := dk_182 0 176 (dk_at dksX1_showsAt_1 14 rfl rfl)
theorem dX1_showsAt_39 : decode cX1_showsAt 39 = .ok (.iload_n 1, 1) := dk_27 (dk_at dksX1_showsAt_1 17 rfl rfl)
theorem dX1_showsAt_40 : decode cX1_showsAt 40 = .ok (.invokestatic 171, 3) := dk_184 0 171 (dk_at dksX1_showsAt_1 18 rfl rfl)
theorem dX1_showsAt_43 : decode cX1_showsAt 43 = .ok (.ifCond .eq 7, 3) := dk_153 0 7 (dk_at dksX1_showsAt_1 21 rfl rfl)
theorem dX1_showsAt_46 : decode cX1_showsAt 46 = .ok (.iload_n 2, 1) := dk_28 (dk_at dksX1_showsAt_2 0 rfl rfl)
theorem dX1_showsAt_47 : decode cX1_showsAt 47 = .ok (.goto 4, 3) := dk_167 0 4 (dk_at dksX1_showsAt_2 1 rfl rfl)
theorem dX1_showsAt_50 : decode cX1_showsAt 50 = .ok (.iconst (-1), 1) := dk_2 (dk_at dksX1_showsAt_2 4 rfl rfl)
theorem dX1_showsAt_51 : decode cX1_showsAt 51 = .ok (.ireturn, 1) := dk_172 (dk_at dksX1_showsAt_2 5 rfl rfl)
abbrev cX1_knowers : ByteArray := prog_1_method_17_code
def yX1_knowers : MethodName := ⟨RX1, "knowers", "(I)I"⟩
def dkwX1_knowers_1 : List UInt8 := [27, 184, 0, 171, 153, 0, 9, 28, 4, 29, 120, 128, 61, 132, 3, 1, 167, 255, 220, 28, 172]
abbrev dktX1_knowers_1 : List UInt8 := dkwX1_knowers_1 ++ []
def dkwX1_knowers_0 : List UInt8 := [3, 61, 3, 62, 29, 42, 180, 0, 22, 182, 0, 92, 162, 0, 31, 42, 180, 0, 31, 180, 0, 158, 29, 46]
abbrev dktX1_knowers_0 : List UInt8 := dkwX1_knowers_0 ++ dktX1_knowers_1
theorem dksX1_knowers_0 : cX1_knowers.data.toList.drop 0 = dktX1_knowers_0 := by decide +kernel
theorem dksX1_knowers_1 : cX1_knowers.data.toList.drop 24 = dktX1_knowers_1 := dk_seg dksX1_knowers_0 24 rfl rfl
theorem dX1_knowers_0 : decode cX1_knowers 0 = .ok (.iconst 0, 1) := dk_3 (dk_at dksX1_knowers_0 0 rfl rfl)
theorem dX1_knowers_1 : decode cX1_knowers 1 = .ok (.istore_n 2, 1) := dk_61 (dk_at dksX1_knowers_0 1 rfl rfl)
theorem dX1_knowers_2 : decode cX1_knowers 2 = .ok (.iconst 0, 1) := dk_3 (dk_at dksX1_knowers_0 2 rfl rfl)
theorem dX1_knowers_3 : decode cX1_knowers 3 = .ok (.istore_n 3, 1) := dk_62 (dk_at dksX1_knowers_0 3 rfl rfl)
theorem dX1_knowers_4 : decode cX1_knowers 4 = .ok (.iload_n 3, 1) := dk_29 (dk_at dksX1_knowers_0 4 rfl rfl)
theorem dX1_knowers_5 : decode cX1_knowers 5 = .ok (.aload_n 0, 1) := dk_42 (dk_at dksX1_knowers_0 5 rfl rfl)
theorem dX1_knowers_6 : decode cX1_knowers 6 = .ok (.getfield 22, 3) := dk_180 0 22 (dk_at dksX1_knowers_0 6 rfl rfl)
theorem dX1_knowers_9 : decode cX1_knowers 9 = .ok (.invokevirtual 92, 3) := dk_182 0 92 (dk_at dksX1_knowers_0 9 rfl rfl)
theorem dX1_knowers_12 : decode cX1_knowers 12 = .ok (.if_icmp .ge 31, 3) := dk_162 0 31 (dk_at dksX1_knowers_0 12 rfl rfl)
theorem dX1_knowers_15 : decode cX1_knowers 15 = .ok (.aload_n 0, 1) := dk_42 (dk_at dksX1_knowers_0 15 rfl rfl)
theorem dX1_knowers_16 : decode cX1_knowers 16 = .ok (.getfield 31, 3) := dk_180 0 31 (dk_at dksX1_knowers_0 16 rfl rfl)
theorem dX1_knowers_19 : decode cX1_knowers 19 = .ok (.getfield 158, 3) := dk_180 0 158 (dk_at dksX1_knowers_0 19 rfl rfl)
theorem dX1_knowers_22 : decode cX1_knowers 22 = .ok (.iload_n 3, 1) := dk_29 (dk_at dksX1_knowers_0 22 rfl rfl)
theorem dX1_knowers_23 : decode cX1_knowers 23 = .ok (.iaload, 1) := dk_46 (dk_at dksX1_knowers_0 23 rfl rfl)
theorem dX1_knowers_24 : decode cX1_knowers 24 = .ok (.iload_n 1, 1) := dk_27 (dk_at dksX1_knowers_1 0 rfl rfl)
theorem dX1_knowers_25 : decode cX1_knowers 25 = .ok (.invokestatic 171, 3) := dk_184 0 171 (dk_at dksX1_knowers_1 1 rfl rfl)
theorem dX1_knowers_28 : decode cX1_knowers 28 = .ok (.ifCond .eq 9, 3) := dk_153 0 9 (dk_at dksX1_knowers_1 4 rfl rfl)
theorem dX1_knowers_31 : decode cX1_knowers 31 = .ok (.iload_n 2, 1) := dk_28 (dk_at dksX1_knowers_1 7 rfl rfl)
theorem dX1_knowers_32 : decode cX1_knowers 32 = .ok (.iconst 1, 1) := dk_4 (dk_at dksX1_knowers_1 8 rfl rfl)
theorem dX1_knowers_33 : decode cX1_knowers 33 = .ok (.iload_n 3, 1) := dk_29 (dk_at dksX1_knowers_1 9 rfl rfl)
theorem dX1_knowers_34 : decode cX1_knowers 34 = .ok (.ishl, 1) := dk_120 (dk_at dksX1_knowers_1 10 rfl rfl)
theorem dX1_knowers_35 : decode cX1_knowers 35 = .ok (.ior, 1) := dk_128 (dk_at dksX1_knowers_1 11 rfl rfl)
theorem dX1_knowers_36 : decode cX1_knowers 36 = .ok (.istore_n 2, 1) := dk_61 (dk_at dksX1_knowers_1 12 rfl rfl)
theorem dX1_knowers_37 : decode cX1_knowers 37 = .ok (.iinc 3 1, 3) := dk_132 3 1 (dk_at dksX1_knowers_1 13 rfl rfl)
theorem dX1_knowers_40 : decode cX1_knowers 40 = .ok (.goto (-36), 3) := dk_167 255 220 (dk_at dksX1_knowers_1 16 rfl rfl)
theorem dX1_knowers_43 : decode cX1_knowers 43 = .ok (.iload_n 2, 1) := dk_28 (dk_at dksX1_knowers_1 19 rfl rfl)
theorem dX1_knowers_44 : decode cX1_knowers 44 = .ok (.ireturn, 1) := dk_172 (dk_at dksX1_knowers_1 20 rfl rfl)
abbrev cX1_town : ByteArray := prog_1_method_23_code
def yX1_town : MethodName := ⟨RX1, "town", "(II)I"⟩
def dkwX1_town_3 : List UInt8 := [167, 0, 15, 42, 42, 180, 0, 31, 27, 182, 0, 197, 182, 0, 206, 172]
abbrev dktX1_town_3 : List UInt8 := dkwX1_town_3 ++ []
def dkwX1_town_2 : List UInt8 := [180, 0, 31, 27, 182, 0, 203, 167, 0, 31, 28, 6, 160, 0, 14, 42, 180, 0, 31, 27, 182, 0, 176]
abbrev dktX1_town_2 : List UInt8 := dkwX1_town_2 ++ dktX1_town_3
def dkwX1_town_1 : List UInt8 := [28, 4, 160, 0, 14, 42, 180, 0, 31, 27, 182, 0, 200, 167, 0, 47, 28, 5, 160, 0, 14, 42]
abbrev dktX1_town_1 : List UInt8 := dkwX1_town_1 ++ dktX1_town_2
def dkwX1_town_0 : List UInt8 := [27, 184, 0, 194, 28, 7, 184, 0, 133, 28, 154, 0, 14, 42, 180, 0, 31, 27, 182, 0, 197, 167, 0, 63]
abbrev dktX1_town_0 : List UInt8 := dkwX1_town_0 ++ dktX1_town_1
theorem dksX1_town_0 : cX1_town.data.toList.drop 0 = dktX1_town_0 := by decide +kernel
theorem dksX1_town_1 : cX1_town.data.toList.drop 24 = dktX1_town_1 := dk_seg dksX1_town_0 24 rfl rfl
theorem dksX1_town_2 : cX1_town.data.toList.drop 46 = dktX1_town_2 := dk_seg dksX1_town_1 22 rfl rfl
theorem dksX1_town_3 : cX1_town.data.toList.drop 69 = dktX1_town_3 := dk_seg dksX1_town_2 23 rfl rfl
theorem dX1_town_0 : decode cX1_town 0 = .ok (.iload_n 1, 1) := dk_27 (dk_at dksX1_town_0 0 rfl rfl)
theorem dX1_town_1 : decode cX1_town 1 = .ok (.invokestatic 194, 3) := dk_184 0 194 (dk_at dksX1_town_0 1 rfl rfl)
theorem dX1_town_4 : decode cX1_town 4 = .ok (.iload_n 2, 1) := dk_28 (dk_at dksX1_town_0 4 rfl rfl)
theorem dX1_town_5 : decode cX1_town 5 = .ok (.iconst 4, 1) := dk_7 (dk_at dksX1_town_0 5 rfl rfl)
theorem dX1_town_6 : decode cX1_town 6 = .ok (.invokestatic 133, 3) := dk_184 0 133 (dk_at dksX1_town_0 6 rfl rfl)
theorem dX1_town_9 : decode cX1_town 9 = .ok (.iload_n 2, 1) := dk_28 (dk_at dksX1_town_0 9 rfl rfl)
theorem dX1_town_10 : decode cX1_town 10 = .ok (.ifCond .ne 14, 3) := dk_154 0 14 (dk_at dksX1_town_0 10 rfl rfl)
theorem dX1_town_13 : decode cX1_town 13 = .ok (.aload_n 0, 1) := dk_42 (dk_at dksX1_town_0 13 rfl rfl)
theorem dX1_town_14 : decode cX1_town 14 = .ok (.getfield 31, 3) := dk_180 0 31 (dk_at dksX1_town_0 14 rfl rfl)
theorem dX1_town_17 : decode cX1_town 17 = .ok (.iload_n 1, 1) := dk_27 (dk_at dksX1_town_0 17 rfl rfl)
theorem dX1_town_18 : decode cX1_town 18 = .ok (.invokevirtual 197, 3) := dk_182 0 197 (dk_at dksX1_town_0 18 rfl rfl)
theorem dX1_town_21 : decode cX1_town 21 = .ok (.goto 63, 3) := dk_167 0 63 (dk_at dksX1_town_0 21 rfl rfl)
theorem dX1_town_24 : decode cX1_town 24 = .ok (.iload_n 2, 1) := dk_28 (dk_at dksX1_town_1 0 rfl rfl)
theorem dX1_town_25 : decode cX1_town 25 = .ok (.iconst 1, 1) := dk_4 (dk_at dksX1_town_1 1 rfl rfl)
theorem dX1_town_26 : decode cX1_town 26 = .ok (.if_icmp .ne 14, 3) := dk_160 0 14 (dk_at dksX1_town_1 2 rfl rfl)
theorem dX1_town_29 : decode cX1_town 29 = .ok (.aload_n 0, 1) := dk_42 (dk_at dksX1_town_1 5 rfl rfl)
theorem dX1_town_30 : decode cX1_town 30 = .ok (.getfield 31, 3) := dk_180 0 31 (dk_at dksX1_town_1 6 rfl rfl)
theorem dX1_town_33 : decode cX1_town 33 = .ok (.iload_n 1, 1) := dk_27 (dk_at dksX1_town_1 9 rfl rfl)
theorem dX1_town_34 : decode cX1_town 34 = .ok (.invokevirtual 200, 3) := dk_182 0 200 (dk_at dksX1_town_1 10 rfl rfl)
theorem dX1_town_37 : decode cX1_town 37 = .ok (.goto 47, 3) := dk_167 0 47 (dk_at dksX1_town_1 13 rfl rfl)
theorem dX1_town_40 : decode cX1_town 40 = .ok (.iload_n 2, 1) := dk_28 (dk_at dksX1_town_1 16 rfl rfl)
theorem dX1_town_41 : decode cX1_town 41 = .ok (.iconst 2, 1) := dk_5 (dk_at dksX1_town_1 17 rfl rfl)
theorem dX1_town_42 : decode cX1_town 42 = .ok (.if_icmp .ne 14, 3) := dk_160 0 14 (dk_at dksX1_town_1 18 rfl rfl)
theorem dX1_town_45 : decode cX1_town 45 = .ok (.aload_n 0, 1) := dk_42 (dk_at dksX1_town_1 21 rfl rfl)
theorem dX1_town_46 : decode cX1_town 46 = .ok (.getfield 31, 3) := dk_180 0 31 (dk_at dksX1_town_2 0 rfl rfl)
theorem dX1_town_49 : decode cX1_town 49 = .ok (.iload_n 1, 1) := dk_27 (dk_at dksX1_town_2 3 rfl rfl)
theorem dX1_town_50 : decode cX1_town 50 = .ok (.invokevirtual 203, 3) := dk_182 0 203 (dk_at dksX1_town_2 4 rfl rfl)
theorem dX1_town_53 : decode cX1_town 53 = .ok (.goto 31, 3) := dk_167 0 31 (dk_at dksX1_town_2 7 rfl rfl)
theorem dX1_town_56 : decode cX1_town 56 = .ok (.iload_n 2, 1) := dk_28 (dk_at dksX1_town_2 10 rfl rfl)
theorem dX1_town_57 : decode cX1_town 57 = .ok (.iconst 3, 1) := dk_6 (dk_at dksX1_town_2 11 rfl rfl)
theorem dX1_town_58 : decode cX1_town 58 = .ok (.if_icmp .ne 14, 3) := dk_160 0 14 (dk_at dksX1_town_2 12 rfl rfl)
theorem dX1_town_61 : decode cX1_town 61 = .ok (.aload_n 0, 1) := dk_42 (dk_at dksX1_town_2 15 rfl rfl)
theorem dX1_town_62 : decode cX1_town 62 = .ok (.getfield 31, 3) := dk_180 0 31 (dk_at dksX1_town_2 16 rfl rfl)
theorem dX1_town_65 : decode cX1_town 65 = .ok (.iload_n 1, 1) := dk_27 (dk_at dksX1_town_2 19 rfl rfl)
theorem dX1_town_66 : decode cX1_town 66 = .ok (.invokevirtual 176, 3) := dk_182 0 176 (dk_at dksX1_town_2 20 rfl rfl)
theorem dX1_town_69 : decode cX1_town 69 = .ok (.goto 15, 3) := dk_167 0 15 (dk_at dksX1_town_3 0 rfl rfl)
theorem dX1_town_72 : decode cX1_town 72 = .ok (.aload_n 0, 1) := dk_42 (dk_at dksX1_town_3 3 rfl rfl)
theorem dX1_town_73 : decode cX1_town 73 = .ok (.aload_n 0, 1) := dk_42 (dk_at dksX1_town_3 4 rfl rfl)
theorem dX1_town_74 : decode cX1_town 74 = .ok (.getfield 31, 3) := dk_180 0 31 (dk_at dksX1_town_3 5 rfl rfl)
theorem dX1_town_77 : decode cX1_town 77 = .ok (.iload_n 1, 1) := dk_27 (dk_at dksX1_town_3 8 rfl rfl)
theorem dX1_town_78 : decode cX1_town 78 = .ok (.invokevirtual 197, 3) := dk_182 0 197 (dk_at dksX1_town_3 9 rfl rfl)
theorem dX1_town_81 : decode cX1_town 81 = .ok (.invokevirtual 206, 3) := dk_182 0 206 (dk_at dksX1_town_3 12 rfl rfl)
theorem dX1_town_84 : decode cX1_town 84 = .ok (.ireturn, 1) := dk_172 (dk_at dksX1_town_3 15 rfl rfl)
abbrev cX1_aTown : ByteArray := prog_1_method_13_code
def yX1_aTown : MethodName := ⟨RX1, "aTown", "(I)V"⟩
def dkwX1_aTown_0 : List UInt8 := [26, 3, 6, 184, 0, 122, 184, 0, 126, 177]
abbrev dktX1_aTown_0 : List UInt8 := dkwX1_aTown_0 ++ []
theorem dksX1_aTown_0 : cX1_aTown.data.toList.drop 0 = dktX1_aTown_0 := by decide +kernel
theorem dX1_aTown_0 : decode cX1_aTown 0 = .ok (.iload_n 0, 1) := dk_26 (dk_at dksX1_aTown_0 0 rfl rfl)
theorem dX1_aTown_1 : decode cX1_aTown 1 = .ok (.iconst 0, 1) := dk_3 (dk_at dksX1_aTown_0 1 rfl rfl)
theorem dX1_aTown_2 : decode cX1_aTown 2 = .ok (.iconst 3, 1) := dk_6 (dk_at dksX1_aTown_0 2 rfl rfl)
theorem dX1_aTown_3 : decode cX1_aTown 3 = .ok (.invokestatic 122, 3) := dk_184 0 122 (dk_at dksX1_aTown_0 3 rfl rfl)
theorem dX1_aTown_6 : decode cX1_aTown 6 = .ok (.invokestatic 126, 3) := dk_184 0 126 (dk_at dksX1_aTown_0 6 rfl rfl)
theorem dX1_aTown_9 : decode cX1_aTown 9 = .ok (.return_, 1) := dk_177 (dk_at dksX1_aTown_0 9 rfl rfl)
abbrev cX1_lost : ByteArray := prog_1_method_22_code
def yX1_lost : MethodName := ⟨RX1, "lost", "(I)I"⟩
def dkwX1_lost_1 : List UInt8 := [2, 130, 126, 172]
abbrev dktX1_lost_1 : List UInt8 := dkwX1_lost_1 ++ []
def dkwX1_lost_0 : List UInt8 := [42, 42, 180, 0, 31, 182, 0, 110, 27, 128, 182, 0, 191, 42, 42, 180, 0, 31, 182, 0, 110, 182, 0, 191]
abbrev dktX1_lost_0 : List UInt8 := dkwX1_lost_0 ++ dktX1_lost_1
theorem dksX1_lost_0 : cX1_lost.data.toList.drop 0 = dktX1_lost_0 := by decide +kernel
theorem dksX1_lost_1 : cX1_lost.data.toList.drop 24 = dktX1_lost_1 := dk_seg dksX1_lost_0 24 rfl rfl
theorem dX1_lost_0 : decode cX1_lost 0 = .ok (.aload_n 0, 1) := dk_42 (dk_at dksX1_lost_0 0 rfl rfl)
theorem dX1_lost_1 : decode cX1_lost 1 = .ok (.aload_n 0, 1) := dk_42 (dk_at dksX1_lost_0 1 rfl rfl)
theorem dX1_lost_2 : decode cX1_lost 2 = .ok (.getfield 31, 3) := dk_180 0 31 (dk_at dksX1_lost_0 2 rfl rfl)
theorem dX1_lost_5 : decode cX1_lost 5 = .ok (.invokevirtual 110, 3) := dk_182 0 110 (dk_at dksX1_lost_0 5 rfl rfl)
theorem dX1_lost_8 : decode cX1_lost 8 = .ok (.iload_n 1, 1) := dk_27 (dk_at dksX1_lost_0 8 rfl rfl)
theorem dX1_lost_9 : decode cX1_lost 9 = .ok (.ior, 1) := dk_128 (dk_at dksX1_lost_0 9 rfl rfl)
theorem dX1_lost_10 : decode cX1_lost 10 = .ok (.invokevirtual 191, 3) := dk_182 0 191 (dk_at dksX1_lost_0 10 rfl rfl)
theorem dX1_lost_13 : decode cX1_lost 13 = .ok (.aload_n 0, 1) := dk_42 (dk_at dksX1_lost_0 13 rfl rfl)
theorem dX1_lost_14 : decode cX1_lost 14 = .ok (.aload_n 0, 1) := dk_42 (dk_at dksX1_lost_0 14 rfl rfl)
theorem dX1_lost_15 : decode cX1_lost 15 = .ok (.getfield 31, 3) := dk_180 0 31 (dk_at dksX1_lost_0 15 rfl rfl)
theorem dX1_lost_18 : decode cX1_lost 18 = .ok (.invokevirtual 110, 3) := dk_182 0 110 (dk_at dksX1_lost_0 18 rfl rfl)
theorem dX1_lost_21 : decode cX1_lost 21 = .ok (.invokevirtual 191, 3) := dk_182 0 191 (dk_at dksX1_lost_0 21 rfl rfl)
theorem dX1_lost_24 : decode cX1_lost 24 = .ok (.iconst (-1), 1) := dk_2 (dk_at dksX1_lost_1 0 rfl rfl)
theorem dX1_lost_25 : decode cX1_lost 25 = .ok (.ixor, 1) := dk_130 (dk_at dksX1_lost_1 1 rfl rfl)
theorem dX1_lost_26 : decode cX1_lost 26 = .ok (.iand, 1) := dk_126 (dk_at dksX1_lost_1 2 rfl rfl)
theorem dX1_lost_27 : decode cX1_lost 27 = .ok (.ireturn, 1) := dk_172 (dk_at dksX1_lost_1 3 rfl rfl)
abbrev cX1_dead : ByteArray := prog_1_method_21_code
def yX1_dead : MethodName := ⟨RX1, "dead", "(I)I"⟩
def dkwX1_dead_1 : List UInt8 := [182, 0, 188, 153, 0, 9, 28, 4, 29, 120, 128, 61, 132, 3, 1, 167, 255, 222, 28, 172]
abbrev dktX1_dead_1 : List UInt8 := dkwX1_dead_1 ++ []
def dkwX1_dead_0 : List UInt8 := [3, 61, 3, 62, 29, 42, 180, 0, 22, 180, 0, 96, 185, 0, 99, 1, 0, 162, 0, 24, 42, 29, 27]
abbrev dktX1_dead_0 : List UInt8 := dkwX1_dead_0 ++ dktX1_dead_1
theorem dksX1_dead_0 : cX1_dead.data.toList.drop 0 = dktX1_dead_0 := by decide +kernel
theorem dksX1_dead_1 : cX1_dead.data.toList.drop 23 = dktX1_dead_1 := dk_seg dksX1_dead_0 23 rfl rfl
theorem dX1_dead_0 : decode cX1_dead 0 = .ok (.iconst 0, 1) := dk_3 (dk_at dksX1_dead_0 0 rfl rfl)
theorem dX1_dead_1 : decode cX1_dead 1 = .ok (.istore_n 2, 1) := dk_61 (dk_at dksX1_dead_0 1 rfl rfl)
theorem dX1_dead_2 : decode cX1_dead 2 = .ok (.iconst 0, 1) := dk_3 (dk_at dksX1_dead_0 2 rfl rfl)
theorem dX1_dead_3 : decode cX1_dead 3 = .ok (.istore_n 3, 1) := dk_62 (dk_at dksX1_dead_0 3 rfl rfl)
theorem dX1_dead_4 : decode cX1_dead 4 = .ok (.iload_n 3, 1) := dk_29 (dk_at dksX1_dead_0 4 rfl rfl)
theorem dX1_dead_5 : decode cX1_dead 5 = .ok (.aload_n 0, 1) := dk_42 (dk_at dksX1_dead_0 5 rfl rfl)
theorem dX1_dead_6 : decode cX1_dead 6 = .ok (.getfield 22, 3) := dk_180 0 22 (dk_at dksX1_dead_0 6 rfl rfl)
theorem dX1_dead_9 : decode cX1_dead 9 = .ok (.getfield 96, 3) := dk_180 0 96 (dk_at dksX1_dead_0 9 rfl rfl)
theorem dX1_dead_12 : decode cX1_dead 12 = .ok (.invokeinterface 99 1, 5) := by decide +kernel
theorem dX1_dead_17 : decode cX1_dead 17 = .ok (.if_icmp .ge 24, 3) := dk_162 0 24 (dk_at dksX1_dead_0 17 rfl rfl)
theorem dX1_dead_20 : decode cX1_dead 20 = .ok (.aload_n 0, 1) := dk_42 (dk_at dksX1_dead_0 20 rfl rfl)
theorem dX1_dead_21 : decode cX1_dead 21 = .ok (.iload_n 3, 1) := dk_29 (dk_at dksX1_dead_0 21 rfl rfl)
theorem dX1_dead_22 : decode cX1_dead 22 = .ok (.iload_n 1, 1) := dk_27 (dk_at dksX1_dead_0 22 rfl rfl)
theorem dX1_dead_23 : decode cX1_dead 23 = .ok (.invokevirtual 188, 3) := dk_182 0 188 (dk_at dksX1_dead_1 0 rfl rfl)
theorem dX1_dead_26 : decode cX1_dead 26 = .ok (.ifCond .eq 9, 3) := dk_153 0 9 (dk_at dksX1_dead_1 3 rfl rfl)
theorem dX1_dead_29 : decode cX1_dead 29 = .ok (.iload_n 2, 1) := dk_28 (dk_at dksX1_dead_1 6 rfl rfl)
theorem dX1_dead_30 : decode cX1_dead 30 = .ok (.iconst 1, 1) := dk_4 (dk_at dksX1_dead_1 7 rfl rfl)
theorem dX1_dead_31 : decode cX1_dead 31 = .ok (.iload_n 3, 1) := dk_29 (dk_at dksX1_dead_1 8 rfl rfl)
theorem dX1_dead_32 : decode cX1_dead 32 = .ok (.ishl, 1) := dk_120 (dk_at dksX1_dead_1 9 rfl rfl)
theorem dX1_dead_33 : decode cX1_dead 33 = .ok (.ior, 1) := dk_128 (dk_at dksX1_dead_1 10 rfl rfl)
theorem dX1_dead_34 : decode cX1_dead 34 = .ok (.istore_n 2, 1) := dk_61 (dk_at dksX1_dead_1 11 rfl rfl)
theorem dX1_dead_35 : decode cX1_dead 35 = .ok (.iinc 3 1, 3) := dk_132 3 1 (dk_at dksX1_dead_1 12 rfl rfl)
theorem dX1_dead_38 : decode cX1_dead 38 = .ok (.goto (-34), 3) := dk_167 255 222 (dk_at dksX1_dead_1 15 rfl rfl)
theorem dX1_dead_41 : decode cX1_dead 41 = .ok (.iload_n 2, 1) := dk_28 (dk_at dksX1_dead_1 18 rfl rfl)
theorem dX1_dead_42 : decode cX1_dead 42 = .ok (.ireturn, 1) := dk_172 (dk_at dksX1_dead_1 19 rfl rfl)
abbrev cX1_isDead : ByteArray := prog_1_method_20_code
def yX1_isDead : MethodName := ⟨RX1, "isDead", "(II)Z"⟩
def dkwX1_isDead_2 : List UInt8 := [184, 0, 171, 153, 0, 7, 4, 167, 0, 4, 3, 172]
abbrev dktX1_isDead_2 : List UInt8 := dkwX1_isDead_2 ++ []
def dkwX1_isDead_1 : List UInt8 := [154, 0, 28, 28, 42, 180, 0, 22, 180, 0, 96, 27, 185, 0, 167, 2, 0, 192, 0, 175, 4, 46]
abbrev dktX1_isDead_1 : List UInt8 := dkwX1_isDead_1 ++ dktX1_isDead_2
def dkwX1_isDead_0 : List UInt8 := [28, 42, 180, 0, 22, 180, 0, 96, 27, 185, 0, 167, 2, 0, 192, 0, 175, 3, 46, 184, 0, 171]
abbrev dktX1_isDead_0 : List UInt8 := dkwX1_isDead_0 ++ dktX1_isDead_1
theorem dksX1_isDead_0 : cX1_isDead.data.toList.drop 0 = dktX1_isDead_0 := by decide +kernel
theorem dksX1_isDead_1 : cX1_isDead.data.toList.drop 22 = dktX1_isDead_1 := dk_seg dksX1_isDead_0 22 rfl rfl
theorem dksX1_isDead_2 : cX1_isDead.data.toList.drop 44 = dktX1_isDead_2 := dk_seg dksX1_isDead_1 22 rfl rfl
theorem dX1_isDead_0 : decode cX1_isDead 0 = .ok (.iload_n 2, 1) := dk_28 (dk_at dksX1_isDead_0 0 rfl rfl)
theorem dX1_isDead_1 : decode cX1_isDead 1 = .ok (.aload_n 0, 1) := dk_42 (dk_at dksX1_isDead_0 1 rfl rfl)
theorem dX1_isDead_2 : decode cX1_isDead 2 = .ok (.getfield 22, 3) := dk_180 0 22 (dk_at dksX1_isDead_0 2 rfl rfl)
theorem dX1_isDead_5 : decode cX1_isDead 5 = .ok (.getfield 96, 3) := dk_180 0 96 (dk_at dksX1_isDead_0 5 rfl rfl)
theorem dX1_isDead_8 : decode cX1_isDead 8 = .ok (.iload_n 1, 1) := dk_27 (dk_at dksX1_isDead_0 8 rfl rfl)
theorem dX1_isDead_9 : decode cX1_isDead 9 = .ok (.invokeinterface 167 2, 5) := by decide +kernel
theorem dX1_isDead_14 : decode cX1_isDead 14 = .ok (.checkcast 175, 3) := dk_192 0 175 (dk_at dksX1_isDead_0 14 rfl rfl)
theorem dX1_isDead_17 : decode cX1_isDead 17 = .ok (.iconst 0, 1) := dk_3 (dk_at dksX1_isDead_0 17 rfl rfl)
theorem dX1_isDead_18 : decode cX1_isDead 18 = .ok (.iaload, 1) := dk_46 (dk_at dksX1_isDead_0 18 rfl rfl)
theorem dX1_isDead_19 : decode cX1_isDead 19 = .ok (.invokestatic 171, 3) := dk_184 0 171 (dk_at dksX1_isDead_0 19 rfl rfl)
theorem dX1_isDead_22 : decode cX1_isDead 22 = .ok (.ifCond .ne 28, 3) := dk_154 0 28 (dk_at dksX1_isDead_1 0 rfl rfl)
theorem dX1_isDead_25 : decode cX1_isDead 25 = .ok (.iload_n 2, 1) := dk_28 (dk_at dksX1_isDead_1 3 rfl rfl)
theorem dX1_isDead_26 : decode cX1_isDead 26 = .ok (.aload_n 0, 1) := dk_42 (dk_at dksX1_isDead_1 4 rfl rfl)
theorem dX1_isDead_27 : decode cX1_isDead 27 = .ok (.getfield 22, 3) := dk_180 0 22 (dk_at dksX1_isDead_1 5 rfl rfl)
theorem dX1_isDead_30 : decode cX1_isDead 30 = .ok (.getfield 96, 3) := dk_180 0 96 (dk_at dksX1_isDead_1 8 rfl rfl)
theorem dX1_isDead_33 : decode cX1_isDead 33 = .ok (.iload_n 1, 1) := dk_27 (dk_at dksX1_isDead_1 11 rfl rfl)
theorem dX1_isDead_34 : decode cX1_isDead 34 = .ok (.invokeinterface 167 2, 5) := by decide +kernel
theorem dX1_isDead_39 : decode cX1_isDead 39 = .ok (.checkcast 175, 3) := dk_192 0 175 (dk_at dksX1_isDead_1 17 rfl rfl)
theorem dX1_isDead_42 : decode cX1_isDead 42 = .ok (.iconst 1, 1) := dk_4 (dk_at dksX1_isDead_1 20 rfl rfl)
theorem dX1_isDead_43 : decode cX1_isDead 43 = .ok (.iaload, 1) := dk_46 (dk_at dksX1_isDead_1 21 rfl rfl)
theorem dX1_isDead_44 : decode cX1_isDead 44 = .ok (.invokestatic 171, 3) := dk_184 0 171 (dk_at dksX1_isDead_2 0 rfl rfl)
theorem dX1_isDead_47 : decode cX1_isDead 47 = .ok (.ifCond .eq 7, 3) := dk_153 0 7 (dk_at dksX1_isDead_2 3 rfl rfl)
theorem dX1_isDead_50 : decode cX1_isDead 50 = .ok (.iconst 1, 1) := dk_4 (dk_at dksX1_isDead_2 6 rfl rfl)
theorem dX1_isDead_51 : decode cX1_isDead 51 = .ok (.goto 4, 3) := dk_167 0 4 (dk_at dksX1_isDead_2 7 rfl rfl)
theorem dX1_isDead_54 : decode cX1_isDead 54 = .ok (.iconst 0, 1) := dk_3 (dk_at dksX1_isDead_2 10 rfl rfl)
theorem dX1_isDead_55 : decode cX1_isDead 55 = .ok (.ireturn, 1) := dk_172 (dk_at dksX1_isDead_2 11 rfl rfl)
abbrev cX1_take : ByteArray := prog_1_method_27_code
def yX1_take : MethodName := ⟨RX1, "take", "(II)Z"⟩
def dkwX1_take_2 : List UInt8 := [180, 0, 31, 27, 28, 182, 0, 233, 4, 172]
abbrev dktX1_take_2 : List UInt8 := dkwX1_take_2 ++ []
def dkwX1_take_1 : List UInt8 := [182, 0, 155, 159, 0, 15, 42, 180, 0, 46, 4, 92, 46, 4, 96, 79, 3, 172, 42, 182, 0, 223, 42]
abbrev dktX1_take_1 : List UInt8 := dkwX1_take_1 ++ dktX1_take_2
def dkwX1_take_0 : List UInt8 := [42, 27, 182, 0, 152, 42, 28, 182, 0, 129, 42, 180, 0, 31, 180, 0, 230, 28, 46, 42, 180, 0, 31, 27]
abbrev dktX1_take_0 : List UInt8 := dkwX1_take_0 ++ dktX1_take_1
theorem dksX1_take_0 : cX1_take.data.toList.drop 0 = dktX1_take_0 := by decide +kernel
theorem dksX1_take_1 : cX1_take.data.toList.drop 24 = dktX1_take_1 := dk_seg dksX1_take_0 24 rfl rfl
theorem dksX1_take_2 : cX1_take.data.toList.drop 47 = dktX1_take_2 := dk_seg dksX1_take_1 23 rfl rfl
theorem dX1_take_0 : decode cX1_take 0 = .ok (.aload_n 0, 1) := dk_42 (dk_at dksX1_take_0 0 rfl rfl)
theorem dX1_take_1 : decode cX1_take 1 = .ok (.iload_n 1, 1) := dk_27 (dk_at dksX1_take_0 1 rfl rfl)
theorem dX1_take_2 : decode cX1_take 2 = .ok (.invokevirtual 152, 3) := dk_182 0 152 (dk_at dksX1_take_0 2 rfl rfl)
theorem dX1_take_5 : decode cX1_take 5 = .ok (.aload_n 0, 1) := dk_42 (dk_at dksX1_take_0 5 rfl rfl)
theorem dX1_take_6 : decode cX1_take 6 = .ok (.iload_n 2, 1) := dk_28 (dk_at dksX1_take_0 6 rfl rfl)
theorem dX1_take_7 : decode cX1_take 7 = .ok (.invokevirtual 129, 3) := dk_182 0 129 (dk_at dksX1_take_0 7 rfl rfl)
theorem dX1_take_10 : decode cX1_take 10 = .ok (.aload_n 0, 1) := dk_42 (dk_at dksX1_take_0 10 rfl rfl)
theorem dX1_take_11 : decode cX1_take 11 = .ok (.getfield 31, 3) := dk_180 0 31 (dk_at dksX1_take_0 11 rfl rfl)
theorem dX1_take_14 : decode cX1_take 14 = .ok (.getfield 230, 3) := dk_180 0 230 (dk_at dksX1_take_0 14 rfl rfl)
theorem dX1_take_17 : decode cX1_take 17 = .ok (.iload_n 2, 1) := dk_28 (dk_at dksX1_take_0 17 rfl rfl)
theorem dX1_take_18 : decode cX1_take 18 = .ok (.iaload, 1) := dk_46 (dk_at dksX1_take_0 18 rfl rfl)
theorem dX1_take_19 : decode cX1_take 19 = .ok (.aload_n 0, 1) := dk_42 (dk_at dksX1_take_0 19 rfl rfl)
theorem dX1_take_20 : decode cX1_take 20 = .ok (.getfield 31, 3) := dk_180 0 31 (dk_at dksX1_take_0 20 rfl rfl)
theorem dX1_take_23 : decode cX1_take 23 = .ok (.iload_n 1, 1) := dk_27 (dk_at dksX1_take_0 23 rfl rfl)
theorem dX1_take_24 : decode cX1_take 24 = .ok (.invokevirtual 155, 3) := dk_182 0 155 (dk_at dksX1_take_1 0 rfl rfl)
theorem dX1_take_27 : decode cX1_take 27 = .ok (.if_icmp .eq 15, 3) := dk_159 0 15 (dk_at dksX1_take_1 3 rfl rfl)
theorem dX1_take_30 : decode cX1_take 30 = .ok (.aload_n 0, 1) := dk_42 (dk_at dksX1_take_1 6 rfl rfl)
theorem dX1_take_31 : decode cX1_take 31 = .ok (.getfield 46, 3) := dk_180 0 46 (dk_at dksX1_take_1 7 rfl rfl)
theorem dX1_take_34 : decode cX1_take 34 = .ok (.iconst 1, 1) := dk_4 (dk_at dksX1_take_1 10 rfl rfl)
theorem dX1_take_35 : decode cX1_take 35 = .ok (.dup2, 1) := dk_92 (dk_at dksX1_take_1 11 rfl rfl)
theorem dX1_take_36 : decode cX1_take 36 = .ok (.iaload, 1) := dk_46 (dk_at dksX1_take_1 12 rfl rfl)
theorem dX1_take_37 : decode cX1_take 37 = .ok (.iconst 1, 1) := dk_4 (dk_at dksX1_take_1 13 rfl rfl)
theorem dX1_take_38 : decode cX1_take 38 = .ok (.iadd, 1) := dk_96 (dk_at dksX1_take_1 14 rfl rfl)
theorem dX1_take_39 : decode cX1_take 39 = .ok (.iastore, 1) := dk_79 (dk_at dksX1_take_1 15 rfl rfl)
theorem dX1_take_40 : decode cX1_take 40 = .ok (.iconst 0, 1) := dk_3 (dk_at dksX1_take_1 16 rfl rfl)
theorem dX1_take_41 : decode cX1_take 41 = .ok (.ireturn, 1) := dk_172 (dk_at dksX1_take_1 17 rfl rfl)
theorem dX1_take_42 : decode cX1_take 42 = .ok (.aload_n 0, 1) := dk_42 (dk_at dksX1_take_1 18 rfl rfl)
theorem dX1_take_43 : decode cX1_take 43 = .ok (.invokevirtual 223, 3) := dk_182 0 223 (dk_at dksX1_take_1 19 rfl rfl)
theorem dX1_take_46 : decode cX1_take 46 = .ok (.aload_n 0, 1) := dk_42 (dk_at dksX1_take_1 22 rfl rfl)
theorem dX1_take_47 : decode cX1_take 47 = .ok (.getfield 31, 3) := dk_180 0 31 (dk_at dksX1_take_2 0 rfl rfl)
theorem dX1_take_50 : decode cX1_take 50 = .ok (.iload_n 1, 1) := dk_27 (dk_at dksX1_take_2 3 rfl rfl)
theorem dX1_take_51 : decode cX1_take 51 = .ok (.iload_n 2, 1) := dk_28 (dk_at dksX1_take_2 4 rfl rfl)
theorem dX1_take_52 : decode cX1_take 52 = .ok (.invokevirtual 233, 3) := dk_182 0 233 (dk_at dksX1_take_2 5 rfl rfl)
theorem dX1_take_55 : decode cX1_take 55 = .ok (.iconst 1, 1) := dk_4 (dk_at dksX1_take_2 8 rfl rfl)
theorem dX1_take_56 : decode cX1_take 56 = .ok (.ireturn, 1) := dk_172 (dk_at dksX1_take_2 9 rfl rfl)
abbrev cX1_leave : ByteArray := prog_1_method_28_code
def yX1_leave : MethodName := ⟨RX1, "leave", "(II)I"⟩
def dkwX1_leave_2 : List UInt8 := [79, 42, 180, 0, 31, 180, 0, 230, 28, 46, 172]
abbrev dktX1_leave_2 : List UInt8 := dkwX1_leave_2 ++ []
def dkwX1_leave_1 : List UInt8 := [182, 0, 220, 172, 42, 182, 0, 223, 42, 180, 0, 31, 180, 0, 230, 28, 42, 180, 0, 31, 27, 182, 0, 155]
abbrev dktX1_leave_1 : List UInt8 := dkwX1_leave_1 ++ dktX1_leave_2
def dkwX1_leave_0 : List UInt8 := [42, 27, 182, 0, 152, 42, 28, 182, 0, 129, 42, 180, 0, 31, 28, 182, 0, 146, 27, 159, 0, 9, 42, 4]
abbrev dktX1_leave_0 : List UInt8 := dkwX1_leave_0 ++ dktX1_leave_1
theorem dksX1_leave_0 : cX1_leave.data.toList.drop 0 = dktX1_leave_0 := by decide +kernel
theorem dksX1_leave_1 : cX1_leave.data.toList.drop 24 = dktX1_leave_1 := dk_seg dksX1_leave_0 24 rfl rfl
theorem dksX1_leave_2 : cX1_leave.data.toList.drop 48 = dktX1_leave_2 := dk_seg dksX1_leave_1 24 rfl rfl
theorem dX1_leave_0 : decode cX1_leave 0 = .ok (.aload_n 0, 1) := dk_42 (dk_at dksX1_leave_0 0 rfl rfl)
theorem dX1_leave_1 : decode cX1_leave 1 = .ok (.iload_n 1, 1) := dk_27 (dk_at dksX1_leave_0 1 rfl rfl)
theorem dX1_leave_2 : decode cX1_leave 2 = .ok (.invokevirtual 152, 3) := dk_182 0 152 (dk_at dksX1_leave_0 2 rfl rfl)
theorem dX1_leave_5 : decode cX1_leave 5 = .ok (.aload_n 0, 1) := dk_42 (dk_at dksX1_leave_0 5 rfl rfl)
theorem dX1_leave_6 : decode cX1_leave 6 = .ok (.iload_n 2, 1) := dk_28 (dk_at dksX1_leave_0 6 rfl rfl)
theorem dX1_leave_7 : decode cX1_leave 7 = .ok (.invokevirtual 129, 3) := dk_182 0 129 (dk_at dksX1_leave_0 7 rfl rfl)
theorem dX1_leave_10 : decode cX1_leave 10 = .ok (.aload_n 0, 1) := dk_42 (dk_at dksX1_leave_0 10 rfl rfl)
theorem dX1_leave_11 : decode cX1_leave 11 = .ok (.getfield 31, 3) := dk_180 0 31 (dk_at dksX1_leave_0 11 rfl rfl)
theorem dX1_leave_14 : decode cX1_leave 14 = .ok (.iload_n 2, 1) := dk_28 (dk_at dksX1_leave_0 14 rfl rfl)
theorem dX1_leave_15 : decode cX1_leave 15 = .ok (.invokevirtual 146, 3) := dk_182 0 146 (dk_at dksX1_leave_0 15 rfl rfl)
theorem dX1_leave_18 : decode cX1_leave 18 = .ok (.iload_n 1, 1) := dk_27 (dk_at dksX1_leave_0 18 rfl rfl)
theorem dX1_leave_19 : decode cX1_leave 19 = .ok (.if_icmp .eq 9, 3) := dk_159 0 9 (dk_at dksX1_leave_0 19 rfl rfl)
theorem dX1_leave_22 : decode cX1_leave 22 = .ok (.aload_n 0, 1) := dk_42 (dk_at dksX1_leave_0 22 rfl rfl)
theorem dX1_leave_23 : decode cX1_leave 23 = .ok (.iconst 1, 1) := dk_4 (dk_at dksX1_leave_0 23 rfl rfl)
theorem dX1_leave_24 : decode cX1_leave 24 = .ok (.invokevirtual 220, 3) := dk_182 0 220 (dk_at dksX1_leave_1 0 rfl rfl)
theorem dX1_leave_27 : decode cX1_leave 27 = .ok (.ireturn, 1) := dk_172 (dk_at dksX1_leave_1 3 rfl rfl)
theorem dX1_leave_28 : decode cX1_leave 28 = .ok (.aload_n 0, 1) := dk_42 (dk_at dksX1_leave_1 4 rfl rfl)
theorem dX1_leave_29 : decode cX1_leave 29 = .ok (.invokevirtual 223, 3) := dk_182 0 223 (dk_at dksX1_leave_1 5 rfl rfl)
theorem dX1_leave_32 : decode cX1_leave 32 = .ok (.aload_n 0, 1) := dk_42 (dk_at dksX1_leave_1 8 rfl rfl)
theorem dX1_leave_33 : decode cX1_leave 33 = .ok (.getfield 31, 3) := dk_180 0 31 (dk_at dksX1_leave_1 9 rfl rfl)
theorem dX1_leave_36 : decode cX1_leave 36 = .ok (.getfield 230, 3) := dk_180 0 230 (dk_at dksX1_leave_1 12 rfl rfl)
theorem dX1_leave_39 : decode cX1_leave 39 = .ok (.iload_n 2, 1) := dk_28 (dk_at dksX1_leave_1 15 rfl rfl)
theorem dX1_leave_40 : decode cX1_leave 40 = .ok (.aload_n 0, 1) := dk_42 (dk_at dksX1_leave_1 16 rfl rfl)
theorem dX1_leave_41 : decode cX1_leave 41 = .ok (.getfield 31, 3) := dk_180 0 31 (dk_at dksX1_leave_1 17 rfl rfl)
theorem dX1_leave_44 : decode cX1_leave 44 = .ok (.iload_n 1, 1) := dk_27 (dk_at dksX1_leave_1 20 rfl rfl)
theorem dX1_leave_45 : decode cX1_leave 45 = .ok (.invokevirtual 155, 3) := dk_182 0 155 (dk_at dksX1_leave_1 21 rfl rfl)
theorem dX1_leave_48 : decode cX1_leave 48 = .ok (.iastore, 1) := dk_79 (dk_at dksX1_leave_2 0 rfl rfl)
theorem dX1_leave_49 : decode cX1_leave 49 = .ok (.aload_n 0, 1) := dk_42 (dk_at dksX1_leave_2 1 rfl rfl)
theorem dX1_leave_50 : decode cX1_leave 50 = .ok (.getfield 31, 3) := dk_180 0 31 (dk_at dksX1_leave_2 2 rfl rfl)
theorem dX1_leave_53 : decode cX1_leave 53 = .ok (.getfield 230, 3) := dk_180 0 230 (dk_at dksX1_leave_2 5 rfl rfl)
theorem dX1_leave_56 : decode cX1_leave 56 = .ok (.iload_n 2, 1) := dk_28 (dk_at dksX1_leave_2 8 rfl rfl)
theorem dX1_leave_57 : decode cX1_leave 57 = .ok (.iaload, 1) := dk_46 (dk_at dksX1_leave_2 9 rfl rfl)
theorem dX1_leave_58 : decode cX1_leave 58 = .ok (.ireturn, 1) := dk_172 (dk_at dksX1_leave_2 10 rfl rfl)
abbrev cX1_forge : ByteArray := prog_1_method_29_code
def yX1_forge : MethodName := ⟨RX1, "forge", "(III)I"⟩
def dkwX1_forge_3 : List UInt8 := [27, 46, 172]
abbrev dktX1_forge_3 : List UInt8 := dkwX1_forge_3 ++ []
def dkwX1_forge_2 : List UInt8 := [167, 0, 10, 42, 180, 0, 31, 180, 0, 140, 58, 4, 25, 4, 27, 92, 46, 4, 29, 120, 130, 79, 25, 4]
abbrev dktX1_forge_2 : List UInt8 := dkwX1_forge_2 ++ dktX1_forge_3
def dkwX1_forge_1 : List UInt8 := [153, 0, 9, 42, 4, 182, 0, 220, 172, 42, 182, 0, 223, 28, 154, 0, 13, 42, 180, 0, 31, 180, 0, 137]
abbrev dktX1_forge_1 : List UInt8 := dkwX1_forge_1 ++ dktX1_forge_2
def dkwX1_forge_0 : List UInt8 := [42, 27, 182, 0, 129, 28, 4, 184, 0, 133, 29, 16, 7, 184, 0, 133, 42, 180, 0, 31, 27, 182, 0, 236]
abbrev dktX1_forge_0 : List UInt8 := dkwX1_forge_0 ++ dktX1_forge_1
theorem dksX1_forge_0 : cX1_forge.data.toList.drop 0 = dktX1_forge_0 := by decide +kernel
theorem dksX1_forge_1 : cX1_forge.data.toList.drop 24 = dktX1_forge_1 := dk_seg dksX1_forge_0 24 rfl rfl
theorem dksX1_forge_2 : cX1_forge.data.toList.drop 48 = dktX1_forge_2 := dk_seg dksX1_forge_1 24 rfl rfl
theorem dksX1_forge_3 : cX1_forge.data.toList.drop 72 = dktX1_forge_3 := dk_seg dksX1_forge_2 24 rfl rfl
theorem dX1_forge_0 : decode cX1_forge 0 = .ok (.aload_n 0, 1) := dk_42 (dk_at dksX1_forge_0 0 rfl rfl)
theorem dX1_forge_1 : decode cX1_forge 1 = .ok (.iload_n 1, 1) := dk_27 (dk_at dksX1_forge_0 1 rfl rfl)
theorem dX1_forge_2 : decode cX1_forge 2 = .ok (.invokevirtual 129, 3) := dk_182 0 129 (dk_at dksX1_forge_0 2 rfl rfl)
theorem dX1_forge_5 : decode cX1_forge 5 = .ok (.iload_n 2, 1) := dk_28 (dk_at dksX1_forge_0 5 rfl rfl)
theorem dX1_forge_6 : decode cX1_forge 6 = .ok (.iconst 1, 1) := dk_4 (dk_at dksX1_forge_0 6 rfl rfl)
theorem dX1_forge_7 : decode cX1_forge 7 = .ok (.invokestatic 133, 3) := dk_184 0 133 (dk_at dksX1_forge_0 7 rfl rfl)
theorem dX1_forge_10 : decode cX1_forge 10 = .ok (.iload_n 3, 1) := dk_29 (dk_at dksX1_forge_0 10 rfl rfl)
theorem dX1_forge_11 : decode cX1_forge 11 = .ok (.bipush 7, 2) := dk_16 7 (dk_at dksX1_forge_0 11 rfl rfl)
theorem dX1_forge_13 : decode cX1_forge 13 = .ok (.invokestatic 133, 3) := dk_184 0 133 (dk_at dksX1_forge_0 13 rfl rfl)
theorem dX1_forge_16 : decode cX1_forge 16 = .ok (.aload_n 0, 1) := dk_42 (dk_at dksX1_forge_0 16 rfl rfl)
theorem dX1_forge_17 : decode cX1_forge 17 = .ok (.getfield 31, 3) := dk_180 0 31 (dk_at dksX1_forge_0 17 rfl rfl)
theorem dX1_forge_20 : decode cX1_forge 20 = .ok (.iload_n 1, 1) := dk_27 (dk_at dksX1_forge_0 20 rfl rfl)
theorem dX1_forge_21 : decode cX1_forge 21 = .ok (.invokevirtual 236, 3) := dk_182 0 236 (dk_at dksX1_forge_0 21 rfl rfl)
theorem dX1_forge_24 : decode cX1_forge 24 = .ok (.ifCond .eq 9, 3) := dk_153 0 9 (dk_at dksX1_forge_1 0 rfl rfl)
theorem dX1_forge_27 : decode cX1_forge 27 = .ok (.aload_n 0, 1) := dk_42 (dk_at dksX1_forge_1 3 rfl rfl)
theorem dX1_forge_28 : decode cX1_forge 28 = .ok (.iconst 1, 1) := dk_4 (dk_at dksX1_forge_1 4 rfl rfl)
theorem dX1_forge_29 : decode cX1_forge 29 = .ok (.invokevirtual 220, 3) := dk_182 0 220 (dk_at dksX1_forge_1 5 rfl rfl)
theorem dX1_forge_32 : decode cX1_forge 32 = .ok (.ireturn, 1) := dk_172 (dk_at dksX1_forge_1 8 rfl rfl)
theorem dX1_forge_33 : decode cX1_forge 33 = .ok (.aload_n 0, 1) := dk_42 (dk_at dksX1_forge_1 9 rfl rfl)
theorem dX1_forge_34 : decode cX1_forge 34 = .ok (.invokevirtual 223, 3) := dk_182 0 223 (dk_at dksX1_forge_1 10 rfl rfl)
theorem dX1_forge_37 : decode cX1_forge 37 = .ok (.iload_n 2, 1) := dk_28 (dk_at dksX1_forge_1 13 rfl rfl)
theorem dX1_forge_38 : decode cX1_forge 38 = .ok (.ifCond .ne 13, 3) := dk_154 0 13 (dk_at dksX1_forge_1 14 rfl rfl)
theorem dX1_forge_41 : decode cX1_forge 41 = .ok (.aload_n 0, 1) := dk_42 (dk_at dksX1_forge_1 17 rfl rfl)
theorem dX1_forge_42 : decode cX1_forge 42 = .ok (.getfield 31, 3) := dk_180 0 31 (dk_at dksX1_forge_1 18 rfl rfl)
theorem dX1_forge_45 : decode cX1_forge 45 = .ok (.getfield 137, 3) := dk_180 0 137 (dk_at dksX1_forge_1 21 rfl rfl)
theorem dX1_forge_48 : decode cX1_forge 48 = .ok (.goto 10, 3) := dk_167 0 10 (dk_at dksX1_forge_2 0 rfl rfl)
theorem dX1_forge_51 : decode cX1_forge 51 = .ok (.aload_n 0, 1) := dk_42 (dk_at dksX1_forge_2 3 rfl rfl)
theorem dX1_forge_52 : decode cX1_forge 52 = .ok (.getfield 31, 3) := dk_180 0 31 (dk_at dksX1_forge_2 4 rfl rfl)
theorem dX1_forge_55 : decode cX1_forge 55 = .ok (.getfield 140, 3) := dk_180 0 140 (dk_at dksX1_forge_2 7 rfl rfl)
theorem dX1_forge_58 : decode cX1_forge 58 = .ok (.astore 4, 2) := dk_58 4 (dk_at dksX1_forge_2 10 rfl rfl)
theorem dX1_forge_60 : decode cX1_forge 60 = .ok (.aload 4, 2) := dk_25 4 (dk_at dksX1_forge_2 12 rfl rfl)
theorem dX1_forge_62 : decode cX1_forge 62 = .ok (.iload_n 1, 1) := dk_27 (dk_at dksX1_forge_2 14 rfl rfl)
theorem dX1_forge_63 : decode cX1_forge 63 = .ok (.dup2, 1) := dk_92 (dk_at dksX1_forge_2 15 rfl rfl)
theorem dX1_forge_64 : decode cX1_forge 64 = .ok (.iaload, 1) := dk_46 (dk_at dksX1_forge_2 16 rfl rfl)
theorem dX1_forge_65 : decode cX1_forge 65 = .ok (.iconst 1, 1) := dk_4 (dk_at dksX1_forge_2 17 rfl rfl)
theorem dX1_forge_66 : decode cX1_forge 66 = .ok (.iload_n 3, 1) := dk_29 (dk_at dksX1_forge_2 18 rfl rfl)
theorem dX1_forge_67 : decode cX1_forge 67 = .ok (.ishl, 1) := dk_120 (dk_at dksX1_forge_2 19 rfl rfl)
theorem dX1_forge_68 : decode cX1_forge 68 = .ok (.ixor, 1) := dk_130 (dk_at dksX1_forge_2 20 rfl rfl)
theorem dX1_forge_69 : decode cX1_forge 69 = .ok (.iastore, 1) := dk_79 (dk_at dksX1_forge_2 21 rfl rfl)
theorem dX1_forge_70 : decode cX1_forge 70 = .ok (.aload 4, 2) := dk_25 4 (dk_at dksX1_forge_2 22 rfl rfl)
theorem dX1_forge_72 : decode cX1_forge 72 = .ok (.iload_n 1, 1) := dk_27 (dk_at dksX1_forge_3 0 rfl rfl)
theorem dX1_forge_73 : decode cX1_forge 73 = .ok (.iaload, 1) := dk_46 (dk_at dksX1_forge_3 1 rfl rfl)
theorem dX1_forge_74 : decode cX1_forge 74 = .ok (.ireturn, 1) := dk_172 (dk_at dksX1_forge_3 2 rfl rfl)
abbrev cX1_fire : ByteArray := prog_1_method_30_code
def yX1_fire : MethodName := ⟨RX1, "fire", "(I)I"⟩
def dkwX1_fire_1 : List UInt8 := [182, 0, 223, 42, 180, 0, 31, 27, 182, 0, 240, 172]
abbrev dktX1_fire_1 : List UInt8 := dkwX1_fire_1 ++ []
def dkwX1_fire_0 : List UInt8 := [27, 184, 0, 194, 42, 180, 0, 31, 27, 182, 0, 197, 154, 0, 9, 42, 4, 182, 0, 220, 172, 42]
abbrev dktX1_fire_0 : List UInt8 := dkwX1_fire_0 ++ dktX1_fire_1
theorem dksX1_fire_0 : cX1_fire.data.toList.drop 0 = dktX1_fire_0 := by decide +kernel
theorem dksX1_fire_1 : cX1_fire.data.toList.drop 22 = dktX1_fire_1 := dk_seg dksX1_fire_0 22 rfl rfl
theorem dX1_fire_0 : decode cX1_fire 0 = .ok (.iload_n 1, 1) := dk_27 (dk_at dksX1_fire_0 0 rfl rfl)
theorem dX1_fire_1 : decode cX1_fire 1 = .ok (.invokestatic 194, 3) := dk_184 0 194 (dk_at dksX1_fire_0 1 rfl rfl)
theorem dX1_fire_4 : decode cX1_fire 4 = .ok (.aload_n 0, 1) := dk_42 (dk_at dksX1_fire_0 4 rfl rfl)
theorem dX1_fire_5 : decode cX1_fire 5 = .ok (.getfield 31, 3) := dk_180 0 31 (dk_at dksX1_fire_0 5 rfl rfl)
theorem dX1_fire_8 : decode cX1_fire 8 = .ok (.iload_n 1, 1) := dk_27 (dk_at dksX1_fire_0 8 rfl rfl)
theorem dX1_fire_9 : decode cX1_fire 9 = .ok (.invokevirtual 197, 3) := dk_182 0 197 (dk_at dksX1_fire_0 9 rfl rfl)
theorem dX1_fire_12 : decode cX1_fire 12 = .ok (.ifCond .ne 9, 3) := dk_154 0 9 (dk_at dksX1_fire_0 12 rfl rfl)
theorem dX1_fire_15 : decode cX1_fire 15 = .ok (.aload_n 0, 1) := dk_42 (dk_at dksX1_fire_0 15 rfl rfl)
theorem dX1_fire_16 : decode cX1_fire 16 = .ok (.iconst 1, 1) := dk_4 (dk_at dksX1_fire_0 16 rfl rfl)
theorem dX1_fire_17 : decode cX1_fire 17 = .ok (.invokevirtual 220, 3) := dk_182 0 220 (dk_at dksX1_fire_0 17 rfl rfl)
theorem dX1_fire_20 : decode cX1_fire 20 = .ok (.ireturn, 1) := dk_172 (dk_at dksX1_fire_0 20 rfl rfl)
theorem dX1_fire_21 : decode cX1_fire 21 = .ok (.aload_n 0, 1) := dk_42 (dk_at dksX1_fire_0 21 rfl rfl)
theorem dX1_fire_22 : decode cX1_fire 22 = .ok (.invokevirtual 223, 3) := dk_182 0 223 (dk_at dksX1_fire_1 0 rfl rfl)
theorem dX1_fire_25 : decode cX1_fire 25 = .ok (.aload_n 0, 1) := dk_42 (dk_at dksX1_fire_1 3 rfl rfl)
theorem dX1_fire_26 : decode cX1_fire 26 = .ok (.getfield 31, 3) := dk_180 0 31 (dk_at dksX1_fire_1 4 rfl rfl)
theorem dX1_fire_29 : decode cX1_fire 29 = .ok (.iload_n 1, 1) := dk_27 (dk_at dksX1_fire_1 7 rfl rfl)
theorem dX1_fire_30 : decode cX1_fire 30 = .ok (.invokevirtual 240, 3) := dk_182 0 240 (dk_at dksX1_fire_1 8 rfl rfl)
theorem dX1_fire_33 : decode cX1_fire 33 = .ok (.ireturn, 1) := dk_172 (dk_at dksX1_fire_1 11 rfl rfl)
abbrev cX1_then : ByteArray := prog_1_method_33_code
def yX1_then : MethodName := ⟨RX1, "then", "(III)I"⟩
def dkwX1_then_1 : List UInt8 := [42, 28, 182, 0, 251, 27, 182, 0, 155, 167, 0, 13, 42, 28, 182, 0, 251, 180, 0, 158, 27, 46, 172]
abbrev dktX1_then_1 : List UInt8 := dkwX1_then_1 ++ []
def dkwX1_then_0 : List UInt8 := [42, 27, 182, 0, 152, 29, 4, 184, 0, 133, 28, 3, 16, 40, 184, 0, 122, 184, 0, 62, 29, 154, 0, 15]
abbrev dktX1_then_0 : List UInt8 := dkwX1_then_0 ++ dktX1_then_1
theorem dksX1_then_0 : cX1_then.data.toList.drop 0 = dktX1_then_0 := by decide +kernel
theorem dksX1_then_1 : cX1_then.data.toList.drop 24 = dktX1_then_1 := dk_seg dksX1_then_0 24 rfl rfl
theorem dX1_then_0 : decode cX1_then 0 = .ok (.aload_n 0, 1) := dk_42 (dk_at dksX1_then_0 0 rfl rfl)
theorem dX1_then_1 : decode cX1_then 1 = .ok (.iload_n 1, 1) := dk_27 (dk_at dksX1_then_0 1 rfl rfl)
theorem dX1_then_2 : decode cX1_then 2 = .ok (.invokevirtual 152, 3) := dk_182 0 152 (dk_at dksX1_then_0 2 rfl rfl)
theorem dX1_then_5 : decode cX1_then 5 = .ok (.iload_n 3, 1) := dk_29 (dk_at dksX1_then_0 5 rfl rfl)
theorem dX1_then_6 : decode cX1_then 6 = .ok (.iconst 1, 1) := dk_4 (dk_at dksX1_then_0 6 rfl rfl)
theorem dX1_then_7 : decode cX1_then 7 = .ok (.invokestatic 133, 3) := dk_184 0 133 (dk_at dksX1_then_0 7 rfl rfl)
theorem dX1_then_10 : decode cX1_then 10 = .ok (.iload_n 2, 1) := dk_28 (dk_at dksX1_then_0 10 rfl rfl)
theorem dX1_then_11 : decode cX1_then 11 = .ok (.iconst 0, 1) := dk_3 (dk_at dksX1_then_0 11 rfl rfl)
theorem dX1_then_12 : decode cX1_then 12 = .ok (.bipush 40, 2) := dk_16 40 (dk_at dksX1_then_0 12 rfl rfl)
theorem dX1_then_14 : decode cX1_then 14 = .ok (.invokestatic 122, 3) := dk_184 0 122 (dk_at dksX1_then_0 14 rfl rfl)
theorem dX1_then_17 : decode cX1_then 17 = .ok (.invokestatic 62, 3) := dk_184 0 62 (dk_at dksX1_then_0 17 rfl rfl)
theorem dX1_then_20 : decode cX1_then 20 = .ok (.iload_n 3, 1) := dk_29 (dk_at dksX1_then_0 20 rfl rfl)
theorem dX1_then_21 : decode cX1_then 21 = .ok (.ifCond .ne 15, 3) := dk_154 0 15 (dk_at dksX1_then_0 21 rfl rfl)
theorem dX1_then_24 : decode cX1_then 24 = .ok (.aload_n 0, 1) := dk_42 (dk_at dksX1_then_1 0 rfl rfl)
theorem dX1_then_25 : decode cX1_then 25 = .ok (.iload_n 2, 1) := dk_28 (dk_at dksX1_then_1 1 rfl rfl)
theorem dX1_then_26 : decode cX1_then 26 = .ok (.invokevirtual 251, 3) := dk_182 0 251 (dk_at dksX1_then_1 2 rfl rfl)
theorem dX1_then_29 : decode cX1_then 29 = .ok (.iload_n 1, 1) := dk_27 (dk_at dksX1_then_1 5 rfl rfl)
theorem dX1_then_30 : decode cX1_then 30 = .ok (.invokevirtual 155, 3) := dk_182 0 155 (dk_at dksX1_then_1 6 rfl rfl)
theorem dX1_then_33 : decode cX1_then 33 = .ok (.goto 13, 3) := dk_167 0 13 (dk_at dksX1_then_1 9 rfl rfl)
theorem dX1_then_36 : decode cX1_then 36 = .ok (.aload_n 0, 1) := dk_42 (dk_at dksX1_then_1 12 rfl rfl)
theorem dX1_then_37 : decode cX1_then 37 = .ok (.iload_n 2, 1) := dk_28 (dk_at dksX1_then_1 13 rfl rfl)
theorem dX1_then_38 : decode cX1_then 38 = .ok (.invokevirtual 251, 3) := dk_182 0 251 (dk_at dksX1_then_1 14 rfl rfl)
theorem dX1_then_41 : decode cX1_then 41 = .ok (.getfield 158, 3) := dk_180 0 158 (dk_at dksX1_then_1 17 rfl rfl)
theorem dX1_then_44 : decode cX1_then 44 = .ok (.iload_n 1, 1) := dk_27 (dk_at dksX1_then_1 20 rfl rfl)
theorem dX1_then_45 : decode cX1_then 45 = .ok (.iaload, 1) := dk_46 (dk_at dksX1_then_1 21 rfl rfl)
theorem dX1_then_46 : decode cX1_then 46 = .ok (.ireturn, 1) := dk_172 (dk_at dksX1_then_1 22 rfl rfl)
abbrev cX1_later : ByteArray := prog_1_method_32_code
def yX1_later : MethodName := ⟨RX1, "later", "(I)LTwinInk$Service;"⟩
def dkwX1_later_0 : List UInt8 := [42, 180, 0, 35, 42, 180, 0, 31, 182, 0, 247, 27, 182, 0, 226, 176]
abbrev dktX1_later_0 : List UInt8 := dkwX1_later_0 ++ []
theorem dksX1_later_0 : cX1_later.data.toList.drop 0 = dktX1_later_0 := by decide +kernel
theorem dX1_later_0 : decode cX1_later 0 = .ok (.aload_n 0, 1) := dk_42 (dk_at dksX1_later_0 0 rfl rfl)
theorem dX1_later_1 : decode cX1_later 1 = .ok (.getfield 35, 3) := dk_180 0 35 (dk_at dksX1_later_0 1 rfl rfl)
theorem dX1_later_4 : decode cX1_later 4 = .ok (.aload_n 0, 1) := dk_42 (dk_at dksX1_later_0 4 rfl rfl)
theorem dX1_later_5 : decode cX1_later 5 = .ok (.getfield 31, 3) := dk_180 0 31 (dk_at dksX1_later_0 5 rfl rfl)
theorem dX1_later_8 : decode cX1_later 8 = .ok (.invokevirtual 247, 3) := dk_182 0 247 (dk_at dksX1_later_0 8 rfl rfl)
theorem dX1_later_11 : decode cX1_later 11 = .ok (.iload_n 1, 1) := dk_27 (dk_at dksX1_later_0 11 rfl rfl)
theorem dX1_later_12 : decode cX1_later 12 = .ok (.invokevirtual 226, 3) := dk_182 0 226 (dk_at dksX1_later_0 12 rfl rfl)
theorem dX1_later_15 : decode cX1_later 15 = .ok (.areturn, 1) := dk_176 (dk_at dksX1_later_0 15 rfl rfl)
abbrev cX1_where : ByteArray := prog_1_method_34_code
def yX1_where : MethodName := ⟨RX1, "where", "(II)I"⟩
def dkwX1_where_1 : List UInt8 := [172]
abbrev dktX1_where_1 : List UInt8 := dkwX1_where_1 ++ []
def dkwX1_where_0 : List UInt8 := [42, 27, 182, 0, 129, 28, 3, 16, 40, 184, 0, 122, 184, 0, 62, 42, 28, 182, 0, 251, 27, 182, 0, 143]
abbrev dktX1_where_0 : List UInt8 := dkwX1_where_0 ++ dktX1_where_1
theorem dksX1_where_0 : cX1_where.data.toList.drop 0 = dktX1_where_0 := by decide +kernel
theorem dksX1_where_1 : cX1_where.data.toList.drop 24 = dktX1_where_1 := dk_seg dksX1_where_0 24 rfl rfl
theorem dX1_where_0 : decode cX1_where 0 = .ok (.aload_n 0, 1) := dk_42 (dk_at dksX1_where_0 0 rfl rfl)
theorem dX1_where_1 : decode cX1_where 1 = .ok (.iload_n 1, 1) := dk_27 (dk_at dksX1_where_0 1 rfl rfl)
theorem dX1_where_2 : decode cX1_where 2 = .ok (.invokevirtual 129, 3) := dk_182 0 129 (dk_at dksX1_where_0 2 rfl rfl)
theorem dX1_where_5 : decode cX1_where 5 = .ok (.iload_n 2, 1) := dk_28 (dk_at dksX1_where_0 5 rfl rfl)
theorem dX1_where_6 : decode cX1_where 6 = .ok (.iconst 0, 1) := dk_3 (dk_at dksX1_where_0 6 rfl rfl)
theorem dX1_where_7 : decode cX1_where 7 = .ok (.bipush 40, 2) := dk_16 40 (dk_at dksX1_where_0 7 rfl rfl)
theorem dX1_where_9 : decode cX1_where 9 = .ok (.invokestatic 122, 3) := dk_184 0 122 (dk_at dksX1_where_0 9 rfl rfl)
theorem dX1_where_12 : decode cX1_where 12 = .ok (.invokestatic 62, 3) := dk_184 0 62 (dk_at dksX1_where_0 12 rfl rfl)
theorem dX1_where_15 : decode cX1_where 15 = .ok (.aload_n 0, 1) := dk_42 (dk_at dksX1_where_0 15 rfl rfl)
theorem dX1_where_16 : decode cX1_where 16 = .ok (.iload_n 2, 1) := dk_28 (dk_at dksX1_where_0 16 rfl rfl)
theorem dX1_where_17 : decode cX1_where 17 = .ok (.invokevirtual 251, 3) := dk_182 0 251 (dk_at dksX1_where_0 17 rfl rfl)
theorem dX1_where_20 : decode cX1_where 20 = .ok (.iload_n 1, 1) := dk_27 (dk_at dksX1_where_0 20 rfl rfl)
theorem dX1_where_21 : decode cX1_where 21 = .ok (.invokevirtual 143, 3) := dk_182 0 143 (dk_at dksX1_where_0 21 rfl rfl)
theorem dX1_where_24 : decode cX1_where 24 = .ok (.ireturn, 1) := dk_172 (dk_at dksX1_where_1 0 rfl rfl)
abbrev cX1_first : ByteArray := prog_1_method_36_code
def yX1_first : MethodName := ⟨RX1, "first", "(II)I"⟩
def dkwX1_first_0 : List UInt8 := [42, 27, 182, 0, 152, 42, 28, 182, 0, 179, 42, 27, 28, 3, 182, 1, 4, 172]
abbrev dktX1_first_0 : List UInt8 := dkwX1_first_0 ++ []
theorem dksX1_first_0 : cX1_first.data.toList.drop 0 = dktX1_first_0 := by decide +kernel
theorem dX1_first_0 : decode cX1_first 0 = .ok (.aload_n 0, 1) := dk_42 (dk_at dksX1_first_0 0 rfl rfl)
theorem dX1_first_1 : decode cX1_first 1 = .ok (.iload_n 1, 1) := dk_27 (dk_at dksX1_first_0 1 rfl rfl)
theorem dX1_first_2 : decode cX1_first 2 = .ok (.invokevirtual 152, 3) := dk_182 0 152 (dk_at dksX1_first_0 2 rfl rfl)
theorem dX1_first_5 : decode cX1_first 5 = .ok (.aload_n 0, 1) := dk_42 (dk_at dksX1_first_0 5 rfl rfl)
theorem dX1_first_6 : decode cX1_first 6 = .ok (.iload_n 2, 1) := dk_28 (dk_at dksX1_first_0 6 rfl rfl)
theorem dX1_first_7 : decode cX1_first 7 = .ok (.invokevirtual 179, 3) := dk_182 0 179 (dk_at dksX1_first_0 7 rfl rfl)
theorem dX1_first_10 : decode cX1_first 10 = .ok (.aload_n 0, 1) := dk_42 (dk_at dksX1_first_0 10 rfl rfl)
theorem dX1_first_11 : decode cX1_first 11 = .ok (.iload_n 1, 1) := dk_27 (dk_at dksX1_first_0 11 rfl rfl)
theorem dX1_first_12 : decode cX1_first 12 = .ok (.iload_n 2, 1) := dk_28 (dk_at dksX1_first_0 12 rfl rfl)
theorem dX1_first_13 : decode cX1_first 13 = .ok (.iconst 0, 1) := dk_3 (dk_at dksX1_first_0 13 rfl rfl)
theorem dX1_first_14 : decode cX1_first 14 = .ok (.invokevirtual 260, 3) := dk_182 1 4 (dk_at dksX1_first_0 14 rfl rfl)
theorem dX1_first_17 : decode cX1_first 17 = .ok (.ireturn, 1) := dk_172 (dk_at dksX1_first_0 17 rfl rfl)
abbrev cX1_knows : ByteArray := prog_1_method_35_code
def yX1_knows : MethodName := ⟨RX1, "knows", "(IIZ)I"⟩
def dkwX1_knows_2 : List UInt8 := [180, 0, 35, 182, 0, 254, 87, 42, 180, 0, 35, 182, 1, 1, 87, 132, 4, 1, 167, 255, 207, 2, 172]
abbrev dktX1_knows_2 : List UInt8 := dkwX1_knows_2 ++ []
def dkwX1_knows_1 : List UInt8 := [180, 0, 35, 180, 0, 158, 27, 46, 28, 184, 0, 171, 153, 0, 6, 21, 4, 172, 29, 153, 0, 11, 42]
abbrev dktX1_knows_1 : List UInt8 := dkwX1_knows_1 ++ dktX1_knows_2
def dkwX1_knows_0 : List UInt8 := [42, 180, 0, 35, 42, 180, 0, 31, 182, 0, 247, 87, 3, 54, 4, 21, 4, 16, 40, 163, 0, 48, 42]
abbrev dktX1_knows_0 : List UInt8 := dkwX1_knows_0 ++ dktX1_knows_1
theorem dksX1_knows_0 : cX1_knows.data.toList.drop 0 = dktX1_knows_0 := by decide +kernel
theorem dksX1_knows_1 : cX1_knows.data.toList.drop 23 = dktX1_knows_1 := dk_seg dksX1_knows_0 23 rfl rfl
theorem dksX1_knows_2 : cX1_knows.data.toList.drop 46 = dktX1_knows_2 := dk_seg dksX1_knows_1 23 rfl rfl
theorem dX1_knows_0 : decode cX1_knows 0 = .ok (.aload_n 0, 1) := dk_42 (dk_at dksX1_knows_0 0 rfl rfl)
theorem dX1_knows_1 : decode cX1_knows 1 = .ok (.getfield 35, 3) := dk_180 0 35 (dk_at dksX1_knows_0 1 rfl rfl)
theorem dX1_knows_4 : decode cX1_knows 4 = .ok (.aload_n 0, 1) := dk_42 (dk_at dksX1_knows_0 4 rfl rfl)
theorem dX1_knows_5 : decode cX1_knows 5 = .ok (.getfield 31, 3) := dk_180 0 31 (dk_at dksX1_knows_0 5 rfl rfl)
theorem dX1_knows_8 : decode cX1_knows 8 = .ok (.invokevirtual 247, 3) := dk_182 0 247 (dk_at dksX1_knows_0 8 rfl rfl)
theorem dX1_knows_11 : decode cX1_knows 11 = .ok (.pop, 1) := dk_87 (dk_at dksX1_knows_0 11 rfl rfl)
theorem dX1_knows_12 : decode cX1_knows 12 = .ok (.iconst 0, 1) := dk_3 (dk_at dksX1_knows_0 12 rfl rfl)
theorem dX1_knows_13 : decode cX1_knows 13 = .ok (.istore 4, 2) := dk_54 4 (dk_at dksX1_knows_0 13 rfl rfl)
theorem dX1_knows_15 : decode cX1_knows 15 = .ok (.iload 4, 2) := dk_21 4 (dk_at dksX1_knows_0 15 rfl rfl)
theorem dX1_knows_17 : decode cX1_knows 17 = .ok (.bipush 40, 2) := dk_16 40 (dk_at dksX1_knows_0 17 rfl rfl)
theorem dX1_knows_19 : decode cX1_knows 19 = .ok (.if_icmp .gt 48, 3) := dk_163 0 48 (dk_at dksX1_knows_0 19 rfl rfl)
theorem dX1_knows_22 : decode cX1_knows 22 = .ok (.aload_n 0, 1) := dk_42 (dk_at dksX1_knows_0 22 rfl rfl)
theorem dX1_knows_23 : decode cX1_knows 23 = .ok (.getfield 35, 3) := dk_180 0 35 (dk_at dksX1_knows_1 0 rfl rfl)
theorem dX1_knows_26 : decode cX1_knows 26 = .ok (.getfield 158, 3) := dk_180 0 158 (dk_at dksX1_knows_1 3 rfl rfl)
theorem dX1_knows_29 : decode cX1_knows 29 = .ok (.iload_n 1, 1) := dk_27 (dk_at dksX1_knows_1 6 rfl rfl)
theorem dX1_knows_30 : decode cX1_knows 30 = .ok (.iaload, 1) := dk_46 (dk_at dksX1_knows_1 7 rfl rfl)
theorem dX1_knows_31 : decode cX1_knows 31 = .ok (.iload_n 2, 1) := dk_28 (dk_at dksX1_knows_1 8 rfl rfl)
theorem dX1_knows_32 : decode cX1_knows 32 = .ok (.invokestatic 171, 3) := dk_184 0 171 (dk_at dksX1_knows_1 9 rfl rfl)
theorem dX1_knows_35 : decode cX1_knows 35 = .ok (.ifCond .eq 6, 3) := dk_153 0 6 (dk_at dksX1_knows_1 12 rfl rfl)
theorem dX1_knows_38 : decode cX1_knows 38 = .ok (.iload 4, 2) := dk_21 4 (dk_at dksX1_knows_1 15 rfl rfl)
theorem dX1_knows_40 : decode cX1_knows 40 = .ok (.ireturn, 1) := dk_172 (dk_at dksX1_knows_1 17 rfl rfl)
theorem dX1_knows_41 : decode cX1_knows 41 = .ok (.iload_n 3, 1) := dk_29 (dk_at dksX1_knows_1 18 rfl rfl)
theorem dX1_knows_42 : decode cX1_knows 42 = .ok (.ifCond .eq 11, 3) := dk_153 0 11 (dk_at dksX1_knows_1 19 rfl rfl)
theorem dX1_knows_45 : decode cX1_knows 45 = .ok (.aload_n 0, 1) := dk_42 (dk_at dksX1_knows_1 22 rfl rfl)
theorem dX1_knows_46 : decode cX1_knows 46 = .ok (.getfield 35, 3) := dk_180 0 35 (dk_at dksX1_knows_2 0 rfl rfl)
theorem dX1_knows_49 : decode cX1_knows 49 = .ok (.invokevirtual 254, 3) := dk_182 0 254 (dk_at dksX1_knows_2 3 rfl rfl)
theorem dX1_knows_52 : decode cX1_knows 52 = .ok (.pop, 1) := dk_87 (dk_at dksX1_knows_2 6 rfl rfl)
theorem dX1_knows_53 : decode cX1_knows 53 = .ok (.aload_n 0, 1) := dk_42 (dk_at dksX1_knows_2 7 rfl rfl)
theorem dX1_knows_54 : decode cX1_knows 54 = .ok (.getfield 35, 3) := dk_180 0 35 (dk_at dksX1_knows_2 8 rfl rfl)
theorem dX1_knows_57 : decode cX1_knows 57 = .ok (.invokevirtual 257, 3) := dk_182 1 1 (dk_at dksX1_knows_2 11 rfl rfl)
theorem dX1_knows_60 : decode cX1_knows 60 = .ok (.pop, 1) := dk_87 (dk_at dksX1_knows_2 14 rfl rfl)
theorem dX1_knows_61 : decode cX1_knows 61 = .ok (.iinc 4 1, 3) := dk_132 4 1 (dk_at dksX1_knows_2 15 rfl rfl)
theorem dX1_knows_64 : decode cX1_knows 64 = .ok (.goto (-49), 3) := dk_167 255 207 (dk_at dksX1_knows_2 18 rfl rfl)
theorem dX1_knows_67 : decode cX1_knows 67 = .ok (.iconst (-1), 1) := dk_2 (dk_at dksX1_knows_2 21 rfl rfl)
theorem dX1_knows_68 : decode cX1_knows 68 = .ok (.ireturn, 1) := dk_172 (dk_at dksX1_knows_2 22 rfl rfl)
abbrev cX1_read : ByteArray := prog_1_method_38_code
def yX1_read : MethodName := ⟨RX1, "read", "(II)I"⟩
def dkwX1_read_3 : List UInt8 := [132, 5, 1, 167, 255, 211, 28, 154, 0, 7, 29, 167, 0, 9, 29, 21, 4, 2, 130, 126, 172]
abbrev dktX1_read_3 : List UInt8 := dkwX1_read_3 ++ []
def dkwX1_read_2 : List UInt8 := [180, 0, 158, 21, 5, 46, 126, 128, 54, 4, 29, 42, 180, 0, 35, 180, 0, 158, 21, 5, 46, 128, 62]
abbrev dktX1_read_2 : List UInt8 := dkwX1_read_2 ++ dktX1_read_3
def dkwX1_read_1 : List UInt8 := [54, 4, 3, 54, 5, 21, 5, 42, 180, 0, 22, 182, 0, 92, 162, 0, 39, 21, 4, 29, 42, 180, 0, 35]
abbrev dktX1_read_1 : List UInt8 := dkwX1_read_1 ++ dktX1_read_2
def dkwX1_read_0 : List UInt8 := [28, 4, 184, 0, 133, 27, 3, 16, 40, 184, 0, 122, 184, 0, 62, 42, 27, 182, 0, 251, 87, 3, 62, 3]
abbrev dktX1_read_0 : List UInt8 := dkwX1_read_0 ++ dktX1_read_1
theorem dksX1_read_0 : cX1_read.data.toList.drop 0 = dktX1_read_0 := by decide +kernel
theorem dksX1_read_1 : cX1_read.data.toList.drop 24 = dktX1_read_1 := dk_seg dksX1_read_0 24 rfl rfl
theorem dksX1_read_2 : cX1_read.data.toList.drop 48 = dktX1_read_2 := dk_seg dksX1_read_1 24 rfl rfl
theorem dksX1_read_3 : cX1_read.data.toList.drop 71 = dktX1_read_3 := dk_seg dksX1_read_2 23 rfl rfl
theorem dX1_read_0 : decode cX1_read 0 = .ok (.iload_n 2, 1) := dk_28 (dk_at dksX1_read_0 0 rfl rfl)
theorem dX1_read_1 : decode cX1_read 1 = .ok (.iconst 1, 1) := dk_4 (dk_at dksX1_read_0 1 rfl rfl)
theorem dX1_read_2 : decode cX1_read 2 = .ok (.invokestatic 133, 3) := dk_184 0 133 (dk_at dksX1_read_0 2 rfl rfl)
theorem dX1_read_5 : decode cX1_read 5 = .ok (.iload_n 1, 1) := dk_27 (dk_at dksX1_read_0 5 rfl rfl)
theorem dX1_read_6 : decode cX1_read 6 = .ok (.iconst 0, 1) := dk_3 (dk_at dksX1_read_0 6 rfl rfl)
theorem dX1_read_7 : decode cX1_read 7 = .ok (.bipush 40, 2) := dk_16 40 (dk_at dksX1_read_0 7 rfl rfl)
theorem dX1_read_9 : decode cX1_read 9 = .ok (.invokestatic 122, 3) := dk_184 0 122 (dk_at dksX1_read_0 9 rfl rfl)
theorem dX1_read_12 : decode cX1_read 12 = .ok (.invokestatic 62, 3) := dk_184 0 62 (dk_at dksX1_read_0 12 rfl rfl)
theorem dX1_read_15 : decode cX1_read 15 = .ok (.aload_n 0, 1) := dk_42 (dk_at dksX1_read_0 15 rfl rfl)
theorem dX1_read_16 : decode cX1_read 16 = .ok (.iload_n 1, 1) := dk_27 (dk_at dksX1_read_0 16 rfl rfl)
theorem dX1_read_17 : decode cX1_read 17 = .ok (.invokevirtual 251, 3) := dk_182 0 251 (dk_at dksX1_read_0 17 rfl rfl)
theorem dX1_read_20 : decode cX1_read 20 = .ok (.pop, 1) := dk_87 (dk_at dksX1_read_0 20 rfl rfl)
theorem dX1_read_21 : decode cX1_read 21 = .ok (.iconst 0, 1) := dk_3 (dk_at dksX1_read_0 21 rfl rfl)
theorem dX1_read_22 : decode cX1_read 22 = .ok (.istore_n 3, 1) := dk_62 (dk_at dksX1_read_0 22 rfl rfl)
theorem dX1_read_23 : decode cX1_read 23 = .ok (.iconst 0, 1) := dk_3 (dk_at dksX1_read_0 23 rfl rfl)
theorem dX1_read_24 : decode cX1_read 24 = .ok (.istore 4, 2) := dk_54 4 (dk_at dksX1_read_1 0 rfl rfl)
theorem dX1_read_26 : decode cX1_read 26 = .ok (.iconst 0, 1) := dk_3 (dk_at dksX1_read_1 2 rfl rfl)
theorem dX1_read_27 : decode cX1_read 27 = .ok (.istore 5, 2) := dk_54 5 (dk_at dksX1_read_1 3 rfl rfl)
theorem dX1_read_29 : decode cX1_read 29 = .ok (.iload 5, 2) := dk_21 5 (dk_at dksX1_read_1 5 rfl rfl)
theorem dX1_read_31 : decode cX1_read 31 = .ok (.aload_n 0, 1) := dk_42 (dk_at dksX1_read_1 7 rfl rfl)
theorem dX1_read_32 : decode cX1_read 32 = .ok (.getfield 22, 3) := dk_180 0 22 (dk_at dksX1_read_1 8 rfl rfl)
theorem dX1_read_35 : decode cX1_read 35 = .ok (.invokevirtual 92, 3) := dk_182 0 92 (dk_at dksX1_read_1 11 rfl rfl)
theorem dX1_read_38 : decode cX1_read 38 = .ok (.if_icmp .ge 39, 3) := dk_162 0 39 (dk_at dksX1_read_1 14 rfl rfl)
theorem dX1_read_41 : decode cX1_read 41 = .ok (.iload 4, 2) := dk_21 4 (dk_at dksX1_read_1 17 rfl rfl)
theorem dX1_read_43 : decode cX1_read 43 = .ok (.iload_n 3, 1) := dk_29 (dk_at dksX1_read_1 19 rfl rfl)
theorem dX1_read_44 : decode cX1_read 44 = .ok (.aload_n 0, 1) := dk_42 (dk_at dksX1_read_1 20 rfl rfl)
theorem dX1_read_45 : decode cX1_read 45 = .ok (.getfield 35, 3) := dk_180 0 35 (dk_at dksX1_read_1 21 rfl rfl)
theorem dX1_read_48 : decode cX1_read 48 = .ok (.getfield 158, 3) := dk_180 0 158 (dk_at dksX1_read_2 0 rfl rfl)
theorem dX1_read_51 : decode cX1_read 51 = .ok (.iload 5, 2) := dk_21 5 (dk_at dksX1_read_2 3 rfl rfl)
theorem dX1_read_53 : decode cX1_read 53 = .ok (.iaload, 1) := dk_46 (dk_at dksX1_read_2 5 rfl rfl)
theorem dX1_read_54 : decode cX1_read 54 = .ok (.iand, 1) := dk_126 (dk_at dksX1_read_2 6 rfl rfl)
theorem dX1_read_55 : decode cX1_read 55 = .ok (.ior, 1) := dk_128 (dk_at dksX1_read_2 7 rfl rfl)
theorem dX1_read_56 : decode cX1_read 56 = .ok (.istore 4, 2) := dk_54 4 (dk_at dksX1_read_2 8 rfl rfl)
theorem dX1_read_58 : decode cX1_read 58 = .ok (.iload_n 3, 1) := dk_29 (dk_at dksX1_read_2 10 rfl rfl)
theorem dX1_read_59 : decode cX1_read 59 = .ok (.aload_n 0, 1) := dk_42 (dk_at dksX1_read_2 11 rfl rfl)
theorem dX1_read_60 : decode cX1_read 60 = .ok (.getfield 35, 3) := dk_180 0 35 (dk_at dksX1_read_2 12 rfl rfl)
theorem dX1_read_63 : decode cX1_read 63 = .ok (.getfield 158, 3) := dk_180 0 158 (dk_at dksX1_read_2 15 rfl rfl)
theorem dX1_read_66 : decode cX1_read 66 = .ok (.iload 5, 2) := dk_21 5 (dk_at dksX1_read_2 18 rfl rfl)
theorem dX1_read_68 : decode cX1_read 68 = .ok (.iaload, 1) := dk_46 (dk_at dksX1_read_2 20 rfl rfl)
theorem dX1_read_69 : decode cX1_read 69 = .ok (.ior, 1) := dk_128 (dk_at dksX1_read_2 21 rfl rfl)
theorem dX1_read_70 : decode cX1_read 70 = .ok (.istore_n 3, 1) := dk_62 (dk_at dksX1_read_2 22 rfl rfl)
theorem dX1_read_71 : decode cX1_read 71 = .ok (.iinc 5 1, 3) := dk_132 5 1 (dk_at dksX1_read_3 0 rfl rfl)
theorem dX1_read_74 : decode cX1_read 74 = .ok (.goto (-45), 3) := dk_167 255 211 (dk_at dksX1_read_3 3 rfl rfl)
theorem dX1_read_77 : decode cX1_read 77 = .ok (.iload_n 2, 1) := dk_28 (dk_at dksX1_read_3 6 rfl rfl)
theorem dX1_read_78 : decode cX1_read 78 = .ok (.ifCond .ne 7, 3) := dk_154 0 7 (dk_at dksX1_read_3 7 rfl rfl)
theorem dX1_read_81 : decode cX1_read 81 = .ok (.iload_n 3, 1) := dk_29 (dk_at dksX1_read_3 10 rfl rfl)
theorem dX1_read_82 : decode cX1_read 82 = .ok (.goto 9, 3) := dk_167 0 9 (dk_at dksX1_read_3 11 rfl rfl)
theorem dX1_read_85 : decode cX1_read 85 = .ok (.iload_n 3, 1) := dk_29 (dk_at dksX1_read_3 14 rfl rfl)
theorem dX1_read_86 : decode cX1_read 86 = .ok (.iload 4, 2) := dk_21 4 (dk_at dksX1_read_3 15 rfl rfl)
theorem dX1_read_88 : decode cX1_read 88 = .ok (.iconst (-1), 1) := dk_2 (dk_at dksX1_read_3 17 rfl rfl)
theorem dX1_read_89 : decode cX1_read 89 = .ok (.ixor, 1) := dk_130 (dk_at dksX1_read_3 18 rfl rfl)
theorem dX1_read_90 : decode cX1_read 90 = .ok (.iand, 1) := dk_126 (dk_at dksX1_read_3 19 rfl rfl)
theorem dX1_read_91 : decode cX1_read 91 = .ok (.ireturn, 1) := dk_172 (dk_at dksX1_read_3 20 rfl rfl)
abbrev cX1_mould : ByteArray := prog_1_method_39_code
def yX1_mould : MethodName := ⟨RX1, "mould", "(I)I"⟩
def dkwX1_mould_2 : List UInt8 := [159, 0, 5, 28, 172, 132, 2, 1, 167, 255, 221, 2, 172]
abbrev dktX1_mould_2 : List UInt8 := dkwX1_mould_2 ++ []
def dkwX1_mould_1 : List UInt8 := [163, 0, 35, 42, 180, 0, 35, 182, 1, 1, 180, 0, 140, 27, 46, 42, 180, 0, 31, 180, 0, 140, 27, 46]
abbrev dktX1_mould_1 : List UInt8 := dkwX1_mould_1 ++ dktX1_mould_2
def dkwX1_mould_0 : List UInt8 := [42, 27, 182, 0, 129, 42, 180, 0, 35, 42, 180, 0, 31, 182, 0, 247, 87, 4, 61, 28, 16, 40]
abbrev dktX1_mould_0 : List UInt8 := dkwX1_mould_0 ++ dktX1_mould_1
theorem dksX1_mould_0 : cX1_mould.data.toList.drop 0 = dktX1_mould_0 := by decide +kernel
theorem dksX1_mould_1 : cX1_mould.data.toList.drop 22 = dktX1_mould_1 := dk_seg dksX1_mould_0 22 rfl rfl
theorem dksX1_mould_2 : cX1_mould.data.toList.drop 46 = dktX1_mould_2 := dk_seg dksX1_mould_1 24 rfl rfl
theorem dX1_mould_0 : decode cX1_mould 0 = .ok (.aload_n 0, 1) := dk_42 (dk_at dksX1_mould_0 0 rfl rfl)
theorem dX1_mould_1 : decode cX1_mould 1 = .ok (.iload_n 1, 1) := dk_27 (dk_at dksX1_mould_0 1 rfl rfl)
theorem dX1_mould_2 : decode cX1_mould 2 = .ok (.invokevirtual 129, 3) := dk_182 0 129 (dk_at dksX1_mould_0 2 rfl rfl)
theorem dX1_mould_5 : decode cX1_mould 5 = .ok (.aload_n 0, 1) := dk_42 (dk_at dksX1_mould_0 5 rfl rfl)
theorem dX1_mould_6 : decode cX1_mould 6 = .ok (.getfield 35, 3) := dk_180 0 35 (dk_at dksX1_mould_0 6 rfl rfl)
theorem dX1_mould_9 : decode cX1_mould 9 = .ok (.aload_n 0, 1) := dk_42 (dk_at dksX1_mould_0 9 rfl rfl)
theorem dX1_mould_10 : decode cX1_mould 10 = .ok (.getfield 31, 3) := dk_180 0 31 (dk_at dksX1_mould_0 10 rfl rfl)
theorem dX1_mould_13 : decode cX1_mould 13 = .ok (.invokevirtual 247, 3) := dk_182 0 247 (dk_at dksX1_mould_0 13 rfl rfl)
theorem dX1_mould_16 : decode cX1_mould 16 = .ok (.pop, 1) := dk_87 (dk_at dksX1_mould_0 16 rfl rfl)
theorem dX1_mould_17 : decode cX1_mould 17 = .ok (.iconst 1, 1) := dk_4 (dk_at dksX1_mould_0 17 rfl rfl)
theorem dX1_mould_18 : decode cX1_mould 18 = .ok (.istore_n 2, 1) := dk_61 (dk_at dksX1_mould_0 18 rfl rfl)
theorem dX1_mould_19 : decode cX1_mould 19 = .ok (.iload_n 2, 1) := dk_28 (dk_at dksX1_mould_0 19 rfl rfl)
theorem dX1_mould_20 : decode cX1_mould 20 = .ok (.bipush 40, 2) := dk_16 40 (dk_at dksX1_mould_0 20 rfl rfl)
theorem dX1_mould_22 : decode cX1_mould 22 = .ok (.if_icmp .gt 35, 3) := dk_163 0 35 (dk_at dksX1_mould_1 0 rfl rfl)
theorem dX1_mould_25 : decode cX1_mould 25 = .ok (.aload_n 0, 1) := dk_42 (dk_at dksX1_mould_1 3 rfl rfl)
theorem dX1_mould_26 : decode cX1_mould 26 = .ok (.getfield 35, 3) := dk_180 0 35 (dk_at dksX1_mould_1 4 rfl rfl)
theorem dX1_mould_29 : decode cX1_mould 29 = .ok (.invokevirtual 257, 3) := dk_182 1 1 (dk_at dksX1_mould_1 7 rfl rfl)
theorem dX1_mould_32 : decode cX1_mould 32 = .ok (.getfield 140, 3) := dk_180 0 140 (dk_at dksX1_mould_1 10 rfl rfl)
theorem dX1_mould_35 : decode cX1_mould 35 = .ok (.iload_n 1, 1) := dk_27 (dk_at dksX1_mould_1 13 rfl rfl)
theorem dX1_mould_36 : decode cX1_mould 36 = .ok (.iaload, 1) := dk_46 (dk_at dksX1_mould_1 14 rfl rfl)
theorem dX1_mould_37 : decode cX1_mould 37 = .ok (.aload_n 0, 1) := dk_42 (dk_at dksX1_mould_1 15 rfl rfl)
theorem dX1_mould_38 : decode cX1_mould 38 = .ok (.getfield 31, 3) := dk_180 0 31 (dk_at dksX1_mould_1 16 rfl rfl)
theorem dX1_mould_41 : decode cX1_mould 41 = .ok (.getfield 140, 3) := dk_180 0 140 (dk_at dksX1_mould_1 19 rfl rfl)
theorem dX1_mould_44 : decode cX1_mould 44 = .ok (.iload_n 1, 1) := dk_27 (dk_at dksX1_mould_1 22 rfl rfl)
theorem dX1_mould_45 : decode cX1_mould 45 = .ok (.iaload, 1) := dk_46 (dk_at dksX1_mould_1 23 rfl rfl)
theorem dX1_mould_46 : decode cX1_mould 46 = .ok (.if_icmp .eq 5, 3) := dk_159 0 5 (dk_at dksX1_mould_2 0 rfl rfl)
theorem dX1_mould_49 : decode cX1_mould 49 = .ok (.iload_n 2, 1) := dk_28 (dk_at dksX1_mould_2 3 rfl rfl)
theorem dX1_mould_50 : decode cX1_mould 50 = .ok (.ireturn, 1) := dk_172 (dk_at dksX1_mould_2 4 rfl rfl)
theorem dX1_mould_51 : decode cX1_mould 51 = .ok (.iinc 2 1, 3) := dk_132 2 1 (dk_at dksX1_mould_2 5 rfl rfl)
theorem dX1_mould_54 : decode cX1_mould 54 = .ok (.goto (-35), 3) := dk_167 255 221 (dk_at dksX1_mould_2 8 rfl rfl)
theorem dX1_mould_57 : decode cX1_mould 57 = .ok (.iconst (-1), 1) := dk_2 (dk_at dksX1_mould_2 11 rfl rfl)
theorem dX1_mould_58 : decode cX1_mould 58 = .ok (.ireturn, 1) := dk_172 (dk_at dksX1_mould_2 12 rfl rfl)
abbrev cX1_meet : ByteArray := prog_1_method_40_code
def yX1_meet : MethodName := ⟨RX1, "meet", "(II)I"⟩
def dkwX1_meet_3 : List UInt8 := [182, 1, 1, 87, 132, 3, 1, 167, 255, 201, 2, 172]
abbrev dktX1_meet_3 : List UInt8 := dkwX1_meet_3 ++ []
def dkwX1_meet_2 : List UInt8 := [180, 0, 35, 27, 182, 0, 143, 42, 180, 0, 35, 28, 182, 0, 143, 160, 0, 5, 29, 172, 42, 180, 0, 35]
abbrev dktX1_meet_2 : List UInt8 := dkwX1_meet_2 ++ dktX1_meet_3
def dkwX1_meet_1 : List UInt8 := [29, 16, 40, 163, 0, 55, 27, 28, 159, 0, 50, 42, 180, 0, 35, 27, 182, 0, 143, 2, 159, 0, 24, 42]
abbrev dktX1_meet_1 : List UInt8 := dkwX1_meet_1 ++ dktX1_meet_2
def dkwX1_meet_0 : List UInt8 := [42, 27, 182, 0, 129, 42, 28, 182, 0, 129, 42, 180, 0, 35, 42, 180, 0, 31, 182, 0, 247, 87, 3, 62]
abbrev dktX1_meet_0 : List UInt8 := dkwX1_meet_0 ++ dktX1_meet_1
theorem dksX1_meet_0 : cX1_meet.data.toList.drop 0 = dktX1_meet_0 := by decide +kernel
theorem dksX1_meet_1 : cX1_meet.data.toList.drop 24 = dktX1_meet_1 := dk_seg dksX1_meet_0 24 rfl rfl
theorem dksX1_meet_2 : cX1_meet.data.toList.drop 48 = dktX1_meet_2 := dk_seg dksX1_meet_1 24 rfl rfl
theorem dksX1_meet_3 : cX1_meet.data.toList.drop 72 = dktX1_meet_3 := dk_seg dksX1_meet_2 24 rfl rfl
theorem dX1_meet_0 : decode cX1_meet 0 = .ok (.aload_n 0, 1) := dk_42 (dk_at dksX1_meet_0 0 rfl rfl)
theorem dX1_meet_1 : decode cX1_meet 1 = .ok (.iload_n 1, 1) := dk_27 (dk_at dksX1_meet_0 1 rfl rfl)
theorem dX1_meet_2 : decode cX1_meet 2 = .ok (.invokevirtual 129, 3) := dk_182 0 129 (dk_at dksX1_meet_0 2 rfl rfl)
theorem dX1_meet_5 : decode cX1_meet 5 = .ok (.aload_n 0, 1) := dk_42 (dk_at dksX1_meet_0 5 rfl rfl)
theorem dX1_meet_6 : decode cX1_meet 6 = .ok (.iload_n 2, 1) := dk_28 (dk_at dksX1_meet_0 6 rfl rfl)
theorem dX1_meet_7 : decode cX1_meet 7 = .ok (.invokevirtual 129, 3) := dk_182 0 129 (dk_at dksX1_meet_0 7 rfl rfl)
theorem dX1_meet_10 : decode cX1_meet 10 = .ok (.aload_n 0, 1) := dk_42 (dk_at dksX1_meet_0 10 rfl rfl)
theorem dX1_meet_11 : decode cX1_meet 11 = .ok (.getfield 35, 3) := dk_180 0 35 (dk_at dksX1_meet_0 11 rfl rfl)
theorem dX1_meet_14 : decode cX1_meet 14 = .ok (.aload_n 0, 1) := dk_42 (dk_at dksX1_meet_0 14 rfl rfl)
theorem dX1_meet_15 : decode cX1_meet 15 = .ok (.getfield 31, 3) := dk_180 0 31 (dk_at dksX1_meet_0 15 rfl rfl)
theorem dX1_meet_18 : decode cX1_meet 18 = .ok (.invokevirtual 247, 3) := dk_182 0 247 (dk_at dksX1_meet_0 18 rfl rfl)
theorem dX1_meet_21 : decode cX1_meet 21 = .ok (.pop, 1) := dk_87 (dk_at dksX1_meet_0 21 rfl rfl)
theorem dX1_meet_22 : decode cX1_meet 22 = .ok (.iconst 0, 1) := dk_3 (dk_at dksX1_meet_0 22 rfl rfl)
theorem dX1_meet_23 : decode cX1_meet 23 = .ok (.istore_n 3, 1) := dk_62 (dk_at dksX1_meet_0 23 rfl rfl)
theorem dX1_meet_24 : decode cX1_meet 24 = .ok (.iload_n 3, 1) := dk_29 (dk_at dksX1_meet_1 0 rfl rfl)
theorem dX1_meet_25 : decode cX1_meet 25 = .ok (.bipush 40, 2) := dk_16 40 (dk_at dksX1_meet_1 1 rfl rfl)
theorem dX1_meet_27 : decode cX1_meet 27 = .ok (.if_icmp .gt 55, 3) := dk_163 0 55 (dk_at dksX1_meet_1 3 rfl rfl)
theorem dX1_meet_30 : decode cX1_meet 30 = .ok (.iload_n 1, 1) := dk_27 (dk_at dksX1_meet_1 6 rfl rfl)
theorem dX1_meet_31 : decode cX1_meet 31 = .ok (.iload_n 2, 1) := dk_28 (dk_at dksX1_meet_1 7 rfl rfl)
theorem dX1_meet_32 : decode cX1_meet 32 = .ok (.if_icmp .eq 50, 3) := dk_159 0 50 (dk_at dksX1_meet_1 8 rfl rfl)
theorem dX1_meet_35 : decode cX1_meet 35 = .ok (.aload_n 0, 1) := dk_42 (dk_at dksX1_meet_1 11 rfl rfl)
theorem dX1_meet_36 : decode cX1_meet 36 = .ok (.getfield 35, 3) := dk_180 0 35 (dk_at dksX1_meet_1 12 rfl rfl)
theorem dX1_meet_39 : decode cX1_meet 39 = .ok (.iload_n 1, 1) := dk_27 (dk_at dksX1_meet_1 15 rfl rfl)
theorem dX1_meet_40 : decode cX1_meet 40 = .ok (.invokevirtual 143, 3) := dk_182 0 143 (dk_at dksX1_meet_1 16 rfl rfl)
theorem dX1_meet_43 : decode cX1_meet 43 = .ok (.iconst (-1), 1) := dk_2 (dk_at dksX1_meet_1 19 rfl rfl)
theorem dX1_meet_44 : decode cX1_meet 44 = .ok (.if_icmp .eq 24, 3) := dk_159 0 24 (dk_at dksX1_meet_1 20 rfl rfl)
theorem dX1_meet_47 : decode cX1_meet 47 = .ok (.aload_n 0, 1) := dk_42 (dk_at dksX1_meet_1 23 rfl rfl)
theorem dX1_meet_48 : decode cX1_meet 48 = .ok (.getfield 35, 3) := dk_180 0 35 (dk_at dksX1_meet_2 0 rfl rfl)
theorem dX1_meet_51 : decode cX1_meet 51 = .ok (.iload_n 1, 1) := dk_27 (dk_at dksX1_meet_2 3 rfl rfl)
theorem dX1_meet_52 : decode cX1_meet 52 = .ok (.invokevirtual 143, 3) := dk_182 0 143 (dk_at dksX1_meet_2 4 rfl rfl)
theorem dX1_meet_55 : decode cX1_meet 55 = .ok (.aload_n 0, 1) := dk_42 (dk_at dksX1_meet_2 7 rfl rfl)
theorem dX1_meet_56 : decode cX1_meet 56 = .ok (.getfield 35, 3) := dk_180 0 35 (dk_at dksX1_meet_2 8 rfl rfl)
theorem dX1_meet_59 : decode cX1_meet 59 = .ok (.iload_n 2, 1) := dk_28 (dk_at dksX1_meet_2 11 rfl rfl)
theorem dX1_meet_60 : decode cX1_meet 60 = .ok (.invokevirtual 143, 3) := dk_182 0 143 (dk_at dksX1_meet_2 12 rfl rfl)
theorem dX1_meet_63 : decode cX1_meet 63 = .ok (.if_icmp .ne 5, 3) := dk_160 0 5 (dk_at dksX1_meet_2 15 rfl rfl)
theorem dX1_meet_66 : decode cX1_meet 66 = .ok (.iload_n 3, 1) := dk_29 (dk_at dksX1_meet_2 18 rfl rfl)
theorem dX1_meet_67 : decode cX1_meet 67 = .ok (.ireturn, 1) := dk_172 (dk_at dksX1_meet_2 19 rfl rfl)
theorem dX1_meet_68 : decode cX1_meet 68 = .ok (.aload_n 0, 1) := dk_42 (dk_at dksX1_meet_2 20 rfl rfl)
theorem dX1_meet_69 : decode cX1_meet 69 = .ok (.getfield 35, 3) := dk_180 0 35 (dk_at dksX1_meet_2 21 rfl rfl)
theorem dX1_meet_72 : decode cX1_meet 72 = .ok (.invokevirtual 257, 3) := dk_182 1 1 (dk_at dksX1_meet_3 0 rfl rfl)
theorem dX1_meet_75 : decode cX1_meet 75 = .ok (.pop, 1) := dk_87 (dk_at dksX1_meet_3 3 rfl rfl)
theorem dX1_meet_76 : decode cX1_meet 76 = .ok (.iinc 3 1, 3) := dk_132 3 1 (dk_at dksX1_meet_3 4 rfl rfl)
theorem dX1_meet_79 : decode cX1_meet 79 = .ok (.goto (-55), 3) := dk_167 255 201 (dk_at dksX1_meet_3 7 rfl rfl)
theorem dX1_meet_82 : decode cX1_meet 82 = .ok (.iconst (-1), 1) := dk_2 (dk_at dksX1_meet_3 10 rfl rfl)
theorem dX1_meet_83 : decode cX1_meet 83 = .ok (.ireturn, 1) := dk_172 (dk_at dksX1_meet_3 11 rfl rfl)
abbrev cX1_gathering : ByteArray := prog_1_method_41_code
def yX1_gathering : MethodName := ⟨RX1, "gathering", "(I)I"⟩
def dkwX1_gathering_2 : List UInt8 := [184, 1, 7, 164, 0, 5, 29, 61, 132, 3, 1, 167, 255, 221, 28, 172]
abbrev dktX1_gathering_2 : List UInt8 := dkwX1_gathering_2 ++ []
def dkwX1_gathering_1 : List UInt8 := [162, 0, 36, 42, 180, 0, 35, 29, 182, 0, 200, 184, 1, 7, 42, 180, 0, 35, 28, 182, 0, 200]
abbrev dktX1_gathering_1 : List UInt8 := dkwX1_gathering_1 ++ dktX1_gathering_2
def dkwX1_gathering_0 : List UInt8 := [27, 3, 16, 40, 184, 0, 122, 184, 0, 62, 42, 27, 182, 0, 251, 87, 3, 61, 4, 62, 29, 7]
abbrev dktX1_gathering_0 : List UInt8 := dkwX1_gathering_0 ++ dktX1_gathering_1
theorem dksX1_gathering_0 : cX1_gathering.data.toList.drop 0 = dktX1_gathering_0 := by decide +kernel
theorem dksX1_gathering_1 : cX1_gathering.data.toList.drop 22 = dktX1_gathering_1 := dk_seg dksX1_gathering_0 22 rfl rfl
theorem dksX1_gathering_2 : cX1_gathering.data.toList.drop 44 = dktX1_gathering_2 := dk_seg dksX1_gathering_1 22 rfl rfl
theorem dX1_gathering_0 : decode cX1_gathering 0 = .ok (.iload_n 1, 1) := dk_27 (dk_at dksX1_gathering_0 0 rfl rfl)
theorem dX1_gathering_1 : decode cX1_gathering 1 = .ok (.iconst 0, 1) := dk_3 (dk_at dksX1_gathering_0 1 rfl rfl)
theorem dX1_gathering_2 : decode cX1_gathering 2 = .ok (.bipush 40, 2) := dk_16 40 (dk_at dksX1_gathering_0 2 rfl rfl)
theorem dX1_gathering_4 : decode cX1_gathering 4 = .ok (.invokestatic 122, 3) := dk_184 0 122 (dk_at dksX1_gathering_0 4 rfl rfl)
theorem dX1_gathering_7 : decode cX1_gathering 7 = .ok (.invokestatic 62, 3) := dk_184 0 62 (dk_at dksX1_gathering_0 7 rfl rfl)
theorem dX1_gathering_10 : decode cX1_gathering 10 = .ok (.aload_n 0, 1) := dk_42 (dk_at dksX1_gathering_0 10 rfl rfl)
theorem dX1_gathering_11 : decode cX1_gathering 11 = .ok (.iload_n 1, 1) := dk_27 (dk_at dksX1_gathering_0 11 rfl rfl)
theorem dX1_gathering_12 : decode cX1_gathering 12 = .ok (.invokevirtual 251, 3) := dk_182 0 251 (dk_at dksX1_gathering_0 12 rfl rfl)
theorem dX1_gathering_15 : decode cX1_gathering 15 = .ok (.pop, 1) := dk_87 (dk_at dksX1_gathering_0 15 rfl rfl)
theorem dX1_gathering_16 : decode cX1_gathering 16 = .ok (.iconst 0, 1) := dk_3 (dk_at dksX1_gathering_0 16 rfl rfl)
theorem dX1_gathering_17 : decode cX1_gathering 17 = .ok (.istore_n 2, 1) := dk_61 (dk_at dksX1_gathering_0 17 rfl rfl)
theorem dX1_gathering_18 : decode cX1_gathering 18 = .ok (.iconst 1, 1) := dk_4 (dk_at dksX1_gathering_0 18 rfl rfl)
theorem dX1_gathering_19 : decode cX1_gathering 19 = .ok (.istore_n 3, 1) := dk_62 (dk_at dksX1_gathering_0 19 rfl rfl)
theorem dX1_gathering_20 : decode cX1_gathering 20 = .ok (.iload_n 3, 1) := dk_29 (dk_at dksX1_gathering_0 20 rfl rfl)
theorem dX1_gathering_21 : decode cX1_gathering 21 = .ok (.iconst 4, 1) := dk_7 (dk_at dksX1_gathering_0 21 rfl rfl)
theorem dX1_gathering_22 : decode cX1_gathering 22 = .ok (.if_icmp .ge 36, 3) := dk_162 0 36 (dk_at dksX1_gathering_1 0 rfl rfl)
theorem dX1_gathering_25 : decode cX1_gathering 25 = .ok (.aload_n 0, 1) := dk_42 (dk_at dksX1_gathering_1 3 rfl rfl)
theorem dX1_gathering_26 : decode cX1_gathering 26 = .ok (.getfield 35, 3) := dk_180 0 35 (dk_at dksX1_gathering_1 4 rfl rfl)
theorem dX1_gathering_29 : decode cX1_gathering 29 = .ok (.iload_n 3, 1) := dk_29 (dk_at dksX1_gathering_1 7 rfl rfl)
theorem dX1_gathering_30 : decode cX1_gathering 30 = .ok (.invokevirtual 200, 3) := dk_182 0 200 (dk_at dksX1_gathering_1 8 rfl rfl)
theorem dX1_gathering_33 : decode cX1_gathering 33 = .ok (.invokestatic 263, 3) := dk_184 1 7 (dk_at dksX1_gathering_1 11 rfl rfl)
theorem dX1_gathering_36 : decode cX1_gathering 36 = .ok (.aload_n 0, 1) := dk_42 (dk_at dksX1_gathering_1 14 rfl rfl)
theorem dX1_gathering_37 : decode cX1_gathering 37 = .ok (.getfield 35, 3) := dk_180 0 35 (dk_at dksX1_gathering_1 15 rfl rfl)
theorem dX1_gathering_40 : decode cX1_gathering 40 = .ok (.iload_n 2, 1) := dk_28 (dk_at dksX1_gathering_1 18 rfl rfl)
theorem dX1_gathering_41 : decode cX1_gathering 41 = .ok (.invokevirtual 200, 3) := dk_182 0 200 (dk_at dksX1_gathering_1 19 rfl rfl)
theorem dX1_gathering_44 : decode cX1_gathering 44 = .ok (.invokestatic 263, 3) := dk_184 1 7 (dk_at dksX1_gathering_2 0 rfl rfl)
theorem dX1_gathering_47 : decode cX1_gathering 47 = .ok (.if_icmp .le 5, 3) := dk_164 0 5 (dk_at dksX1_gathering_2 3 rfl rfl)
theorem dX1_gathering_50 : decode cX1_gathering 50 = .ok (.iload_n 3, 1) := dk_29 (dk_at dksX1_gathering_2 6 rfl rfl)
theorem dX1_gathering_51 : decode cX1_gathering 51 = .ok (.istore_n 2, 1) := dk_61 (dk_at dksX1_gathering_2 7 rfl rfl)
theorem dX1_gathering_52 : decode cX1_gathering 52 = .ok (.iinc 3 1, 3) := dk_132 3 1 (dk_at dksX1_gathering_2 8 rfl rfl)
theorem dX1_gathering_55 : decode cX1_gathering 55 = .ok (.goto (-35), 3) := dk_167 255 221 (dk_at dksX1_gathering_2 11 rfl rfl)
theorem dX1_gathering_58 : decode cX1_gathering 58 = .ok (.iload_n 2, 1) := dk_28 (dk_at dksX1_gathering_2 14 rfl rfl)
theorem dX1_gathering_59 : decode cX1_gathering 59 = .ok (.ireturn, 1) := dk_172 (dk_at dksX1_gathering_2 15 rfl rfl)
abbrev cX1_row : ByteArray := prog_1_method_43_code
def yX1_row : MethodName := ⟨RX1, "row", "(I)I"⟩
def dkwX1_row_9 : List UInt8 := [29, 4, 21, 7, 120, 128, 62, 21, 7, 54, 4, 132, 5, 255, 132, 6, 1, 167, 255, 133, 21, 4, 172]
abbrev dktX1_row_9 : List UInt8 := dkwX1_row_9 ++ []
def dkwX1_row_8 : List UInt8 := [50, 29, 4, 21, 8, 120, 128, 46, 96, 21, 5, 160, 0, 7, 21, 8, 54, 7, 132, 8, 255, 167, 255, 173]
abbrev dktX1_row_8 : List UInt8 := dkwX1_row_8 ++ dktX1_row_9
def dkwX1_row_7 : List UInt8 := [21, 8, 182, 1, 24, 153, 0, 7, 4, 167, 0, 4, 3, 54, 9, 21, 9, 153, 0, 25, 4, 44, 21, 8]
abbrev dktX1_row_7 : List UInt8 := dkwX1_row_7 ++ dktX1_row_8
def dkwX1_row_6 : List UInt8 := [154, 0, 36, 29, 21, 8, 184, 0, 171, 154, 0, 27, 21, 4, 2, 159, 0, 17, 42, 180, 0, 31, 21, 4]
abbrev dktX1_row_6 : List UInt8 := dkwX1_row_6 ++ dktX1_row_7
def dkwX1_row_5 : List UInt8 := [180, 0, 22, 180, 0, 89, 4, 100, 54, 8, 21, 8, 155, 0, 84, 42, 180, 0, 31, 21, 8, 182, 0, 236]
abbrev dktX1_row_5 : List UInt8 := dkwX1_row_5 ++ dktX1_row_6
def dkwX1_row_4 : List UInt8 := [162, 0, 7, 4, 167, 0, 4, 3, 184, 0, 126, 3, 54, 6, 21, 6, 27, 163, 0, 123, 2, 54, 7, 42]
abbrev dktX1_row_4 : List UInt8 := dkwX1_row_4 ++ dktX1_row_5
def dkwX1_row_3 : List UInt8 := [184, 1, 14, 54, 5, 132, 6, 1, 167, 255, 211, 27, 2, 160, 0, 6, 21, 5, 172, 27, 21, 5]
abbrev dktX1_row_3 : List UInt8 := dkwX1_row_3 ++ dktX1_row_4
def dkwX1_row_2 : List UInt8 := [180, 0, 31, 21, 6, 182, 0, 236, 154, 0, 21, 21, 5, 4, 44, 21, 6, 50, 4, 21, 6, 120, 46, 96]
abbrev dktX1_row_2 : List UInt8 := dkwX1_row_2 ++ dktX1_row_3
def dkwX1_row_1 : List UInt8 := [2, 54, 4, 3, 54, 5, 3, 54, 6, 21, 6, 42, 180, 0, 22, 180, 0, 89, 162, 0, 39, 42]
abbrev dktX1_row_1 : List UInt8 := dkwX1_row_1 ++ dktX1_row_2
def dkwX1_row_0 : List UInt8 := [27, 2, 42, 180, 0, 22, 180, 0, 89, 4, 100, 184, 0, 122, 184, 0, 126, 42, 182, 1, 20, 77, 3, 62]
abbrev dktX1_row_0 : List UInt8 := dkwX1_row_0 ++ dktX1_row_1
theorem dksX1_row_0 : cX1_row.data.toList.drop 0 = dktX1_row_0 := by decide +kernel
theorem dksX1_row_1 : cX1_row.data.toList.drop 24 = dktX1_row_1 := dk_seg dksX1_row_0 24 rfl rfl
theorem dksX1_row_2 : cX1_row.data.toList.drop 46 = dktX1_row_2 := dk_seg dksX1_row_1 22 rfl rfl
theorem dksX1_row_3 : cX1_row.data.toList.drop 70 = dktX1_row_3 := dk_seg dksX1_row_2 24 rfl rfl
theorem dksX1_row_4 : cX1_row.data.toList.drop 92 = dktX1_row_4 := dk_seg dksX1_row_3 22 rfl rfl
theorem dksX1_row_5 : cX1_row.data.toList.drop 116 = dktX1_row_5 := dk_seg dksX1_row_4 24 rfl rfl
theorem dksX1_row_6 : cX1_row.data.toList.drop 140 = dktX1_row_6 := dk_seg dksX1_row_5 24 rfl rfl
theorem dksX1_row_7 : cX1_row.data.toList.drop 164 = dktX1_row_7 := dk_seg dksX1_row_6 24 rfl rfl
theorem dksX1_row_8 : cX1_row.data.toList.drop 188 = dktX1_row_8 := dk_seg dksX1_row_7 24 rfl rfl
theorem dksX1_row_9 : cX1_row.data.toList.drop 212 = dktX1_row_9 := dk_seg dksX1_row_8 24 rfl rfl
theorem dX1_row_0 : decode cX1_row 0 = .ok (.iload_n 1, 1) := dk_27 (dk_at dksX1_row_0 0 rfl rfl)
theorem dX1_row_1 : decode cX1_row 1 = .ok (.iconst (-1), 1) := dk_2 (dk_at dksX1_row_0 1 rfl rfl)
theorem dX1_row_2 : decode cX1_row 2 = .ok (.aload_n 0, 1) := dk_42 (dk_at dksX1_row_0 2 rfl rfl)
theorem dX1_row_3 : decode cX1_row 3 = .ok (.getfield 22, 3) := dk_180 0 22 (dk_at dksX1_row_0 3 rfl rfl)
theorem dX1_row_6 : decode cX1_row 6 = .ok (.getfield 89, 3) := dk_180 0 89 (dk_at dksX1_row_0 6 rfl rfl)
theorem dX1_row_9 : decode cX1_row 9 = .ok (.iconst 1, 1) := dk_4 (dk_at dksX1_row_0 9 rfl rfl)
theorem dX1_row_10 : decode cX1_row 10 = .ok (.isub, 1) := dk_100 (dk_at dksX1_row_0 10 rfl rfl)
theorem dX1_row_11 : decode cX1_row 11 = .ok (.invokestatic 122, 3) := dk_184 0 122 (dk_at dksX1_row_0 11 rfl rfl)
theorem dX1_row_14 : decode cX1_row 14 = .ok (.invokestatic 126, 3) := dk_184 0 126 (dk_at dksX1_row_0 14 rfl rfl)
theorem dX1_row_17 : decode cX1_row 17 = .ok (.aload_n 0, 1) := dk_42 (dk_at dksX1_row_0 17 rfl rfl)
theorem dX1_row_18 : decode cX1_row 18 = .ok (.invokevirtual 276, 3) := dk_182 1 20 (dk_at dksX1_row_0 18 rfl rfl)
theorem dX1_row_21 : decode cX1_row 21 = .ok (.astore_n 2, 1) := dk_77 (dk_at dksX1_row_0 21 rfl rfl)
theorem dX1_row_22 : decode cX1_row 22 = .ok (.iconst 0, 1) := dk_3 (dk_at dksX1_row_0 22 rfl rfl)
theorem dX1_row_23 : decode cX1_row 23 = .ok (.istore_n 3, 1) := dk_62 (dk_at dksX1_row_0 23 rfl rfl)
theorem dX1_row_24 : decode cX1_row 24 = .ok (.iconst (-1), 1) := dk_2 (dk_at dksX1_row_1 0 rfl rfl)
theorem dX1_row_25 : decode cX1_row 25 = .ok (.istore 4, 2) := dk_54 4 (dk_at dksX1_row_1 1 rfl rfl)
theorem dX1_row_27 : decode cX1_row 27 = .ok (.iconst 0, 1) := dk_3 (dk_at dksX1_row_1 3 rfl rfl)
theorem dX1_row_28 : decode cX1_row 28 = .ok (.istore 5, 2) := dk_54 5 (dk_at dksX1_row_1 4 rfl rfl)
theorem dX1_row_30 : decode cX1_row 30 = .ok (.iconst 0, 1) := dk_3 (dk_at dksX1_row_1 6 rfl rfl)
theorem dX1_row_31 : decode cX1_row 31 = .ok (.istore 6, 2) := dk_54 6 (dk_at dksX1_row_1 7 rfl rfl)
theorem dX1_row_33 : decode cX1_row 33 = .ok (.iload 6, 2) := dk_21 6 (dk_at dksX1_row_1 9 rfl rfl)
theorem dX1_row_35 : decode cX1_row 35 = .ok (.aload_n 0, 1) := dk_42 (dk_at dksX1_row_1 11 rfl rfl)
theorem dX1_row_36 : decode cX1_row 36 = .ok (.getfield 22, 3) := dk_180 0 22 (dk_at dksX1_row_1 12 rfl rfl)
theorem dX1_row_39 : decode cX1_row 39 = .ok (.getfield 89, 3) := dk_180 0 89 (dk_at dksX1_row_1 15 rfl rfl)
theorem dX1_row_42 : decode cX1_row 42 = .ok (.if_icmp .ge 39, 3) := dk_162 0 39 (dk_at dksX1_row_1 18 rfl rfl)
theorem dX1_row_45 : decode cX1_row 45 = .ok (.aload_n 0, 1) := dk_42 (dk_at dksX1_row_1 21 rfl rfl)
theorem dX1_row_46 : decode cX1_row 46 = .ok (.getfield 31, 3) := dk_180 0 31 (dk_at dksX1_row_2 0 rfl rfl)
theorem dX1_row_49 : decode cX1_row 49 = .ok (.iload 6, 2) := dk_21 6 (dk_at dksX1_row_2 3 rfl rfl)
theorem dX1_row_51 : decode cX1_row 51 = .ok (.invokevirtual 236, 3) := dk_182 0 236 (dk_at dksX1_row_2 5 rfl rfl)
theorem dX1_row_54 : decode cX1_row 54 = .ok (.ifCond .ne 21, 3) := dk_154 0 21 (dk_at dksX1_row_2 8 rfl rfl)
theorem dX1_row_57 : decode cX1_row 57 = .ok (.iload 5, 2) := dk_21 5 (dk_at dksX1_row_2 11 rfl rfl)
theorem dX1_row_59 : decode cX1_row 59 = .ok (.iconst 1, 1) := dk_4 (dk_at dksX1_row_2 13 rfl rfl)
theorem dX1_row_60 : decode cX1_row 60 = .ok (.aload_n 2, 1) := dk_44 (dk_at dksX1_row_2 14 rfl rfl)
theorem dX1_row_61 : decode cX1_row 61 = .ok (.iload 6, 2) := dk_21 6 (dk_at dksX1_row_2 15 rfl rfl)
theorem dX1_row_63 : decode cX1_row 63 = .ok (.aaload, 1) := dk_50 (dk_at dksX1_row_2 17 rfl rfl)
theorem dX1_row_64 : decode cX1_row 64 = .ok (.iconst 1, 1) := dk_4 (dk_at dksX1_row_2 18 rfl rfl)
theorem dX1_row_65 : decode cX1_row 65 = .ok (.iload 6, 2) := dk_21 6 (dk_at dksX1_row_2 19 rfl rfl)
theorem dX1_row_67 : decode cX1_row 67 = .ok (.ishl, 1) := dk_120 (dk_at dksX1_row_2 21 rfl rfl)
theorem dX1_row_68 : decode cX1_row 68 = .ok (.iaload, 1) := dk_46 (dk_at dksX1_row_2 22 rfl rfl)
theorem dX1_row_69 : decode cX1_row 69 = .ok (.iadd, 1) := dk_96 (dk_at dksX1_row_2 23 rfl rfl)
theorem dX1_row_70 : decode cX1_row 70 = .ok (.invokestatic 270, 3) := dk_184 1 14 (dk_at dksX1_row_3 0 rfl rfl)
theorem dX1_row_73 : decode cX1_row 73 = .ok (.istore 5, 2) := dk_54 5 (dk_at dksX1_row_3 3 rfl rfl)
theorem dX1_row_75 : decode cX1_row 75 = .ok (.iinc 6 1, 3) := dk_132 6 1 (dk_at dksX1_row_3 5 rfl rfl)
theorem dX1_row_78 : decode cX1_row 78 = .ok (.goto (-45), 3) := dk_167 255 211 (dk_at dksX1_row_3 8 rfl rfl)
theorem dX1_row_81 : decode cX1_row 81 = .ok (.iload_n 1, 1) := dk_27 (dk_at dksX1_row_3 11 rfl rfl)
theorem dX1_row_82 : decode cX1_row 82 = .ok (.iconst (-1), 1) := dk_2 (dk_at dksX1_row_3 12 rfl rfl)
theorem dX1_row_83 : decode cX1_row 83 = .ok (.if_icmp .ne 6, 3) := dk_160 0 6 (dk_at dksX1_row_3 13 rfl rfl)
theorem dX1_row_86 : decode cX1_row 86 = .ok (.iload 5, 2) := dk_21 5 (dk_at dksX1_row_3 16 rfl rfl)
theorem dX1_row_88 : decode cX1_row 88 = .ok (.ireturn, 1) := dk_172 (dk_at dksX1_row_3 18 rfl rfl)
theorem dX1_row_89 : decode cX1_row 89 = .ok (.iload_n 1, 1) := dk_27 (dk_at dksX1_row_3 19 rfl rfl)
theorem dX1_row_90 : decode cX1_row 90 = .ok (.iload 5, 2) := dk_21 5 (dk_at dksX1_row_3 20 rfl rfl)
theorem dX1_row_92 : decode cX1_row 92 = .ok (.if_icmp .ge 7, 3) := dk_162 0 7 (dk_at dksX1_row_4 0 rfl rfl)
theorem dX1_row_95 : decode cX1_row 95 = .ok (.iconst 1, 1) := dk_4 (dk_at dksX1_row_4 3 rfl rfl)
theorem dX1_row_96 : decode cX1_row 96 = .ok (.goto 4, 3) := dk_167 0 4 (dk_at dksX1_row_4 4 rfl rfl)
theorem dX1_row_99 : decode cX1_row 99 = .ok (.iconst 0, 1) := dk_3 (dk_at dksX1_row_4 7 rfl rfl)
theorem dX1_row_100 : decode cX1_row 100 = .ok (.invokestatic 126, 3) := dk_184 0 126 (dk_at dksX1_row_4 8 rfl rfl)
theorem dX1_row_103 : decode cX1_row 103 = .ok (.iconst 0, 1) := dk_3 (dk_at dksX1_row_4 11 rfl rfl)
theorem dX1_row_104 : decode cX1_row 104 = .ok (.istore 6, 2) := dk_54 6 (dk_at dksX1_row_4 12 rfl rfl)
theorem dX1_row_106 : decode cX1_row 106 = .ok (.iload 6, 2) := dk_21 6 (dk_at dksX1_row_4 14 rfl rfl)
theorem dX1_row_108 : decode cX1_row 108 = .ok (.iload_n 1, 1) := dk_27 (dk_at dksX1_row_4 16 rfl rfl)
theorem dX1_row_109 : decode cX1_row 109 = .ok (.if_icmp .gt 123, 3) := dk_163 0 123 (dk_at dksX1_row_4 17 rfl rfl)
theorem dX1_row_112 : decode cX1_row 112 = .ok (.iconst (-1), 1) := dk_2 (dk_at dksX1_row_4 20 rfl rfl)
theorem dX1_row_113 : decode cX1_row 113 = .ok (.istore 7, 2) := dk_54 7 (dk_at dksX1_row_4 21 rfl rfl)
theorem dX1_row_115 : decode cX1_row 115 = .ok (.aload_n 0, 1) := dk_42 (dk_at dksX1_row_4 23 rfl rfl)
theorem dX1_row_116 : decode cX1_row 116 = .ok (.getfield 22, 3) := dk_180 0 22 (dk_at dksX1_row_5 0 rfl rfl)
theorem dX1_row_119 : decode cX1_row 119 = .ok (.getfield 89, 3) := dk_180 0 89 (dk_at dksX1_row_5 3 rfl rfl)
theorem dX1_row_122 : decode cX1_row 122 = .ok (.iconst 1, 1) := dk_4 (dk_at dksX1_row_5 6 rfl rfl)
theorem dX1_row_123 : decode cX1_row 123 = .ok (.isub, 1) := dk_100 (dk_at dksX1_row_5 7 rfl rfl)
theorem dX1_row_124 : decode cX1_row 124 = .ok (.istore 8, 2) := dk_54 8 (dk_at dksX1_row_5 8 rfl rfl)
theorem dX1_row_126 : decode cX1_row 126 = .ok (.iload 8, 2) := dk_21 8 (dk_at dksX1_row_5 10 rfl rfl)
theorem dX1_row_128 : decode cX1_row 128 = .ok (.ifCond .lt 84, 3) := dk_155 0 84 (dk_at dksX1_row_5 12 rfl rfl)
theorem dX1_row_131 : decode cX1_row 131 = .ok (.aload_n 0, 1) := dk_42 (dk_at dksX1_row_5 15 rfl rfl)
theorem dX1_row_132 : decode cX1_row 132 = .ok (.getfield 31, 3) := dk_180 0 31 (dk_at dksX1_row_5 16 rfl rfl)
theorem dX1_row_135 : decode cX1_row 135 = .ok (.iload 8, 2) := dk_21 8 (dk_at dksX1_row_5 19 rfl rfl)
theorem dX1_row_137 : decode cX1_row 137 = .ok (.invokevirtual 236, 3) := dk_182 0 236 (dk_at dksX1_row_5 21 rfl rfl)
theorem dX1_row_140 : decode cX1_row 140 = .ok (.ifCond .ne 36, 3) := dk_154 0 36 (dk_at dksX1_row_6 0 rfl rfl)
theorem dX1_row_143 : decode cX1_row 143 = .ok (.iload_n 3, 1) := dk_29 (dk_at dksX1_row_6 3 rfl rfl)
theorem dX1_row_144 : decode cX1_row 144 = .ok (.iload 8, 2) := dk_21 8 (dk_at dksX1_row_6 4 rfl rfl)
theorem dX1_row_146 : decode cX1_row 146 = .ok (.invokestatic 171, 3) := dk_184 0 171 (dk_at dksX1_row_6 6 rfl rfl)
theorem dX1_row_149 : decode cX1_row 149 = .ok (.ifCond .ne 27, 3) := dk_154 0 27 (dk_at dksX1_row_6 9 rfl rfl)
theorem dX1_row_152 : decode cX1_row 152 = .ok (.iload 4, 2) := dk_21 4 (dk_at dksX1_row_6 12 rfl rfl)
theorem dX1_row_154 : decode cX1_row 154 = .ok (.iconst (-1), 1) := dk_2 (dk_at dksX1_row_6 14 rfl rfl)
theorem dX1_row_155 : decode cX1_row 155 = .ok (.if_icmp .eq 17, 3) := dk_159 0 17 (dk_at dksX1_row_6 15 rfl rfl)
theorem dX1_row_158 : decode cX1_row 158 = .ok (.aload_n 0, 1) := dk_42 (dk_at dksX1_row_6 18 rfl rfl)
theorem dX1_row_159 : decode cX1_row 159 = .ok (.getfield 31, 3) := dk_180 0 31 (dk_at dksX1_row_6 19 rfl rfl)
theorem dX1_row_162 : decode cX1_row 162 = .ok (.iload 4, 2) := dk_21 4 (dk_at dksX1_row_6 22 rfl rfl)
theorem dX1_row_164 : decode cX1_row 164 = .ok (.iload 8, 2) := dk_21 8 (dk_at dksX1_row_7 0 rfl rfl)
theorem dX1_row_166 : decode cX1_row 166 = .ok (.invokevirtual 280, 3) := dk_182 1 24 (dk_at dksX1_row_7 2 rfl rfl)
theorem dX1_row_169 : decode cX1_row 169 = .ok (.ifCond .eq 7, 3) := dk_153 0 7 (dk_at dksX1_row_7 5 rfl rfl)
theorem dX1_row_172 : decode cX1_row 172 = .ok (.iconst 1, 1) := dk_4 (dk_at dksX1_row_7 8 rfl rfl)
theorem dX1_row_173 : decode cX1_row 173 = .ok (.goto 4, 3) := dk_167 0 4 (dk_at dksX1_row_7 9 rfl rfl)
theorem dX1_row_176 : decode cX1_row 176 = .ok (.iconst 0, 1) := dk_3 (dk_at dksX1_row_7 12 rfl rfl)
theorem dX1_row_177 : decode cX1_row 177 = .ok (.istore 9, 2) := dk_54 9 (dk_at dksX1_row_7 13 rfl rfl)
theorem dX1_row_179 : decode cX1_row 179 = .ok (.iload 9, 2) := dk_21 9 (dk_at dksX1_row_7 15 rfl rfl)
theorem dX1_row_181 : decode cX1_row 181 = .ok (.ifCond .eq 25, 3) := dk_153 0 25 (dk_at dksX1_row_7 17 rfl rfl)
theorem dX1_row_184 : decode cX1_row 184 = .ok (.iconst 1, 1) := dk_4 (dk_at dksX1_row_7 20 rfl rfl)
theorem dX1_row_185 : decode cX1_row 185 = .ok (.aload_n 2, 1) := dk_44 (dk_at dksX1_row_7 21 rfl rfl)
theorem dX1_row_186 : decode cX1_row 186 = .ok (.iload 8, 2) := dk_21 8 (dk_at dksX1_row_7 22 rfl rfl)
theorem dX1_row_188 : decode cX1_row 188 = .ok (.aaload, 1) := dk_50 (dk_at dksX1_row_8 0 rfl rfl)
theorem dX1_row_189 : decode cX1_row 189 = .ok (.iload_n 3, 1) := dk_29 (dk_at dksX1_row_8 1 rfl rfl)
theorem dX1_row_190 : decode cX1_row 190 = .ok (.iconst 1, 1) := dk_4 (dk_at dksX1_row_8 2 rfl rfl)
theorem dX1_row_191 : decode cX1_row 191 = .ok (.iload 8, 2) := dk_21 8 (dk_at dksX1_row_8 3 rfl rfl)
theorem dX1_row_193 : decode cX1_row 193 = .ok (.ishl, 1) := dk_120 (dk_at dksX1_row_8 5 rfl rfl)
theorem dX1_row_194 : decode cX1_row 194 = .ok (.ior, 1) := dk_128 (dk_at dksX1_row_8 6 rfl rfl)
theorem dX1_row_195 : decode cX1_row 195 = .ok (.iaload, 1) := dk_46 (dk_at dksX1_row_8 7 rfl rfl)
theorem dX1_row_196 : decode cX1_row 196 = .ok (.iadd, 1) := dk_96 (dk_at dksX1_row_8 8 rfl rfl)
theorem dX1_row_197 : decode cX1_row 197 = .ok (.iload 5, 2) := dk_21 5 (dk_at dksX1_row_8 9 rfl rfl)
theorem dX1_row_199 : decode cX1_row 199 = .ok (.if_icmp .ne 7, 3) := dk_160 0 7 (dk_at dksX1_row_8 11 rfl rfl)
theorem dX1_row_202 : decode cX1_row 202 = .ok (.iload 8, 2) := dk_21 8 (dk_at dksX1_row_8 14 rfl rfl)
theorem dX1_row_204 : decode cX1_row 204 = .ok (.istore 7, 2) := dk_54 7 (dk_at dksX1_row_8 16 rfl rfl)
theorem dX1_row_206 : decode cX1_row 206 = .ok (.iinc 8 (-1), 3) := dk_132 8 255 (dk_at dksX1_row_8 18 rfl rfl)
theorem dX1_row_209 : decode cX1_row 209 = .ok (.goto (-83), 3) := dk_167 255 173 (dk_at dksX1_row_8 21 rfl rfl)
theorem dX1_row_212 : decode cX1_row 212 = .ok (.iload_n 3, 1) := dk_29 (dk_at dksX1_row_9 0 rfl rfl)
theorem dX1_row_213 : decode cX1_row 213 = .ok (.iconst 1, 1) := dk_4 (dk_at dksX1_row_9 1 rfl rfl)
theorem dX1_row_214 : decode cX1_row 214 = .ok (.iload 7, 2) := dk_21 7 (dk_at dksX1_row_9 2 rfl rfl)
theorem dX1_row_216 : decode cX1_row 216 = .ok (.ishl, 1) := dk_120 (dk_at dksX1_row_9 4 rfl rfl)
theorem dX1_row_217 : decode cX1_row 217 = .ok (.ior, 1) := dk_128 (dk_at dksX1_row_9 5 rfl rfl)
theorem dX1_row_218 : decode cX1_row 218 = .ok (.istore_n 3, 1) := dk_62 (dk_at dksX1_row_9 6 rfl rfl)
theorem dX1_row_219 : decode cX1_row 219 = .ok (.iload 7, 2) := dk_21 7 (dk_at dksX1_row_9 7 rfl rfl)
theorem dX1_row_221 : decode cX1_row 221 = .ok (.istore 4, 2) := dk_54 4 (dk_at dksX1_row_9 9 rfl rfl)
theorem dX1_row_223 : decode cX1_row 223 = .ok (.iinc 5 (-1), 3) := dk_132 5 255 (dk_at dksX1_row_9 11 rfl rfl)
theorem dX1_row_226 : decode cX1_row 226 = .ok (.iinc 6 1, 3) := dk_132 6 1 (dk_at dksX1_row_9 14 rfl rfl)
theorem dX1_row_229 : decode cX1_row 229 = .ok (.goto (-123), 3) := dk_167 255 133 (dk_at dksX1_row_9 17 rfl rfl)
theorem dX1_row_232 : decode cX1_row 232 = .ok (.iload 4, 2) := dk_21 4 (dk_at dksX1_row_9 20 rfl rfl)
theorem dX1_row_234 : decode cX1_row 234 = .ok (.ireturn, 1) := dk_172 (dk_at dksX1_row_9 22 rfl rfl)
abbrev cX1_rows : ByteArray := prog_1_method_42_code
def yX1_rows : MethodName := ⟨RX1, "rows", "()[[I"⟩
def dkwX1_rows_5 : List UInt8 := [132, 3, 255, 167, 255, 157, 44, 176]
abbrev dktX1_rows_5 : List UInt8 := dkwX1_rows_5 ++ []
def dkwX1_rows_4 : List UInt8 := [29, 4, 21, 6, 120, 128, 46, 96, 184, 1, 14, 79, 132, 6, 1, 167, 255, 200, 132, 4, 1, 167, 255, 170]
abbrev dktX1_rows_4 : List UInt8 := dkwX1_rows_4 ++ dktX1_rows_5
def dkwX1_rows_3 : List UInt8 := [21, 6, 184, 0, 171, 153, 0, 31, 44, 21, 4, 50, 29, 44, 21, 4, 50, 29, 46, 4, 44, 21, 6, 50]
abbrev dktX1_rows_3 : List UInt8 := dkwX1_rows_3 ++ dktX1_rows_4
def dkwX1_rows_2 : List UInt8 := [126, 54, 5, 3, 54, 6, 21, 6, 27, 162, 0, 56, 29, 21, 4, 184, 0, 171, 153, 0, 47, 21, 5]
abbrev dktX1_rows_2 : List UInt8 := dkwX1_rows_2 ++ dktX1_rows_3
def dkwX1_rows_1 : List UInt8 := [158, 0, 101, 3, 54, 4, 21, 4, 27, 162, 0, 86, 42, 180, 0, 31, 21, 4, 182, 0, 149, 29, 2, 130]
abbrev dktX1_rows_1 : List UInt8 := dkwX1_rows_1 ++ dktX1_rows_2
def dkwX1_rows_0 : List UInt8 := [42, 180, 0, 22, 180, 0, 89, 60, 27, 4, 27, 120, 197, 1, 12, 2, 77, 4, 27, 120, 4, 100, 62, 29]
abbrev dktX1_rows_0 : List UInt8 := dkwX1_rows_0 ++ dktX1_rows_1
theorem dksX1_rows_0 : cX1_rows.data.toList.drop 0 = dktX1_rows_0 := by decide +kernel
theorem dksX1_rows_1 : cX1_rows.data.toList.drop 24 = dktX1_rows_1 := dk_seg dksX1_rows_0 24 rfl rfl
theorem dksX1_rows_2 : cX1_rows.data.toList.drop 48 = dktX1_rows_2 := dk_seg dksX1_rows_1 24 rfl rfl
theorem dksX1_rows_3 : cX1_rows.data.toList.drop 71 = dktX1_rows_3 := dk_seg dksX1_rows_2 23 rfl rfl
theorem dksX1_rows_4 : cX1_rows.data.toList.drop 95 = dktX1_rows_4 := dk_seg dksX1_rows_3 24 rfl rfl
theorem dksX1_rows_5 : cX1_rows.data.toList.drop 119 = dktX1_rows_5 := dk_seg dksX1_rows_4 24 rfl rfl
theorem dX1_rows_0 : decode cX1_rows 0 = .ok (.aload_n 0, 1) := dk_42 (dk_at dksX1_rows_0 0 rfl rfl)
theorem dX1_rows_1 : decode cX1_rows 1 = .ok (.getfield 22, 3) := dk_180 0 22 (dk_at dksX1_rows_0 1 rfl rfl)
theorem dX1_rows_4 : decode cX1_rows 4 = .ok (.getfield 89, 3) := dk_180 0 89 (dk_at dksX1_rows_0 4 rfl rfl)
theorem dX1_rows_7 : decode cX1_rows 7 = .ok (.istore_n 1, 1) := dk_60 (dk_at dksX1_rows_0 7 rfl rfl)
theorem dX1_rows_8 : decode cX1_rows 8 = .ok (.iload_n 1, 1) := dk_27 (dk_at dksX1_rows_0 8 rfl rfl)
theorem dX1_rows_9 : decode cX1_rows 9 = .ok (.iconst 1, 1) := dk_4 (dk_at dksX1_rows_0 9 rfl rfl)
theorem dX1_rows_10 : decode cX1_rows 10 = .ok (.iload_n 1, 1) := dk_27 (dk_at dksX1_rows_0 10 rfl rfl)
theorem dX1_rows_11 : decode cX1_rows 11 = .ok (.ishl, 1) := dk_120 (dk_at dksX1_rows_0 11 rfl rfl)
theorem dX1_rows_12 : decode cX1_rows 12 = .ok (.multianewarray 268 2, 4) := by decide +kernel
theorem dX1_rows_16 : decode cX1_rows 16 = .ok (.astore_n 2, 1) := dk_77 (dk_at dksX1_rows_0 16 rfl rfl)
theorem dX1_rows_17 : decode cX1_rows 17 = .ok (.iconst 1, 1) := dk_4 (dk_at dksX1_rows_0 17 rfl rfl)
theorem dX1_rows_18 : decode cX1_rows 18 = .ok (.iload_n 1, 1) := dk_27 (dk_at dksX1_rows_0 18 rfl rfl)
theorem dX1_rows_19 : decode cX1_rows 19 = .ok (.ishl, 1) := dk_120 (dk_at dksX1_rows_0 19 rfl rfl)
theorem dX1_rows_20 : decode cX1_rows 20 = .ok (.iconst 1, 1) := dk_4 (dk_at dksX1_rows_0 20 rfl rfl)
theorem dX1_rows_21 : decode cX1_rows 21 = .ok (.isub, 1) := dk_100 (dk_at dksX1_rows_0 21 rfl rfl)
theorem dX1_rows_22 : decode cX1_rows 22 = .ok (.istore_n 3, 1) := dk_62 (dk_at dksX1_rows_0 22 rfl rfl)
theorem dX1_rows_23 : decode cX1_rows 23 = .ok (.iload_n 3, 1) := dk_29 (dk_at dksX1_rows_0 23 rfl rfl)
theorem dX1_rows_24 : decode cX1_rows 24 = .ok (.ifCond .le 101, 3) := dk_158 0 101 (dk_at dksX1_rows_1 0 rfl rfl)
theorem dX1_rows_27 : decode cX1_rows 27 = .ok (.iconst 0, 1) := dk_3 (dk_at dksX1_rows_1 3 rfl rfl)
theorem dX1_rows_28 : decode cX1_rows 28 = .ok (.istore 4, 2) := dk_54 4 (dk_at dksX1_rows_1 4 rfl rfl)
theorem dX1_rows_30 : decode cX1_rows 30 = .ok (.iload 4, 2) := dk_21 4 (dk_at dksX1_rows_1 6 rfl rfl)
theorem dX1_rows_32 : decode cX1_rows 32 = .ok (.iload_n 1, 1) := dk_27 (dk_at dksX1_rows_1 8 rfl rfl)
theorem dX1_rows_33 : decode cX1_rows 33 = .ok (.if_icmp .ge 86, 3) := dk_162 0 86 (dk_at dksX1_rows_1 9 rfl rfl)
theorem dX1_rows_36 : decode cX1_rows 36 = .ok (.aload_n 0, 1) := dk_42 (dk_at dksX1_rows_1 12 rfl rfl)
theorem dX1_rows_37 : decode cX1_rows 37 = .ok (.getfield 31, 3) := dk_180 0 31 (dk_at dksX1_rows_1 13 rfl rfl)
theorem dX1_rows_40 : decode cX1_rows 40 = .ok (.iload 4, 2) := dk_21 4 (dk_at dksX1_rows_1 16 rfl rfl)
theorem dX1_rows_42 : decode cX1_rows 42 = .ok (.invokevirtual 149, 3) := dk_182 0 149 (dk_at dksX1_rows_1 18 rfl rfl)
theorem dX1_rows_45 : decode cX1_rows 45 = .ok (.iload_n 3, 1) := dk_29 (dk_at dksX1_rows_1 21 rfl rfl)
theorem dX1_rows_46 : decode cX1_rows 46 = .ok (.iconst (-1), 1) := dk_2 (dk_at dksX1_rows_1 22 rfl rfl)
theorem dX1_rows_47 : decode cX1_rows 47 = .ok (.ixor, 1) := dk_130 (dk_at dksX1_rows_1 23 rfl rfl)
theorem dX1_rows_48 : decode cX1_rows 48 = .ok (.iand, 1) := dk_126 (dk_at dksX1_rows_2 0 rfl rfl)
theorem dX1_rows_49 : decode cX1_rows 49 = .ok (.istore 5, 2) := dk_54 5 (dk_at dksX1_rows_2 1 rfl rfl)
theorem dX1_rows_51 : decode cX1_rows 51 = .ok (.iconst 0, 1) := dk_3 (dk_at dksX1_rows_2 3 rfl rfl)
theorem dX1_rows_52 : decode cX1_rows 52 = .ok (.istore 6, 2) := dk_54 6 (dk_at dksX1_rows_2 4 rfl rfl)
theorem dX1_rows_54 : decode cX1_rows 54 = .ok (.iload 6, 2) := dk_21 6 (dk_at dksX1_rows_2 6 rfl rfl)
theorem dX1_rows_56 : decode cX1_rows 56 = .ok (.iload_n 1, 1) := dk_27 (dk_at dksX1_rows_2 8 rfl rfl)
theorem dX1_rows_57 : decode cX1_rows 57 = .ok (.if_icmp .ge 56, 3) := dk_162 0 56 (dk_at dksX1_rows_2 9 rfl rfl)
theorem dX1_rows_60 : decode cX1_rows 60 = .ok (.iload_n 3, 1) := dk_29 (dk_at dksX1_rows_2 12 rfl rfl)
theorem dX1_rows_61 : decode cX1_rows 61 = .ok (.iload 4, 2) := dk_21 4 (dk_at dksX1_rows_2 13 rfl rfl)
theorem dX1_rows_63 : decode cX1_rows 63 = .ok (.invokestatic 171, 3) := dk_184 0 171 (dk_at dksX1_rows_2 15 rfl rfl)
theorem dX1_rows_66 : decode cX1_rows 66 = .ok (.ifCond .eq 47, 3) := dk_153 0 47 (dk_at dksX1_rows_2 18 rfl rfl)
theorem dX1_rows_69 : decode cX1_rows 69 = .ok (.iload 5, 2) := dk_21 5 (dk_at dksX1_rows_2 21 rfl rfl)
theorem dX1_rows_71 : decode cX1_rows 71 = .ok (.iload 6, 2) := dk_21 6 (dk_at dksX1_rows_3 0 rfl rfl)
theorem dX1_rows_73 : decode cX1_rows 73 = .ok (.invokestatic 171, 3) := dk_184 0 171 (dk_at dksX1_rows_3 2 rfl rfl)
theorem dX1_rows_76 : decode cX1_rows 76 = .ok (.ifCond .eq 31, 3) := dk_153 0 31 (dk_at dksX1_rows_3 5 rfl rfl)
theorem dX1_rows_79 : decode cX1_rows 79 = .ok (.aload_n 2, 1) := dk_44 (dk_at dksX1_rows_3 8 rfl rfl)
theorem dX1_rows_80 : decode cX1_rows 80 = .ok (.iload 4, 2) := dk_21 4 (dk_at dksX1_rows_3 9 rfl rfl)
theorem dX1_rows_82 : decode cX1_rows 82 = .ok (.aaload, 1) := dk_50 (dk_at dksX1_rows_3 11 rfl rfl)
theorem dX1_rows_83 : decode cX1_rows 83 = .ok (.iload_n 3, 1) := dk_29 (dk_at dksX1_rows_3 12 rfl rfl)
theorem dX1_rows_84 : decode cX1_rows 84 = .ok (.aload_n 2, 1) := dk_44 (dk_at dksX1_rows_3 13 rfl rfl)
theorem dX1_rows_85 : decode cX1_rows 85 = .ok (.iload 4, 2) := dk_21 4 (dk_at dksX1_rows_3 14 rfl rfl)
theorem dX1_rows_87 : decode cX1_rows 87 = .ok (.aaload, 1) := dk_50 (dk_at dksX1_rows_3 16 rfl rfl)
theorem dX1_rows_88 : decode cX1_rows 88 = .ok (.iload_n 3, 1) := dk_29 (dk_at dksX1_rows_3 17 rfl rfl)
theorem dX1_rows_89 : decode cX1_rows 89 = .ok (.iaload, 1) := dk_46 (dk_at dksX1_rows_3 18 rfl rfl)
theorem dX1_rows_90 : decode cX1_rows 90 = .ok (.iconst 1, 1) := dk_4 (dk_at dksX1_rows_3 19 rfl rfl)
theorem dX1_rows_91 : decode cX1_rows 91 = .ok (.aload_n 2, 1) := dk_44 (dk_at dksX1_rows_3 20 rfl rfl)
theorem dX1_rows_92 : decode cX1_rows 92 = .ok (.iload 6, 2) := dk_21 6 (dk_at dksX1_rows_3 21 rfl rfl)
theorem dX1_rows_94 : decode cX1_rows 94 = .ok (.aaload, 1) := dk_50 (dk_at dksX1_rows_3 23 rfl rfl)
theorem dX1_rows_95 : decode cX1_rows 95 = .ok (.iload_n 3, 1) := dk_29 (dk_at dksX1_rows_4 0 rfl rfl)
theorem dX1_rows_96 : decode cX1_rows 96 = .ok (.iconst 1, 1) := dk_4 (dk_at dksX1_rows_4 1 rfl rfl)
theorem dX1_rows_97 : decode cX1_rows 97 = .ok (.iload 6, 2) := dk_21 6 (dk_at dksX1_rows_4 2 rfl rfl)
theorem dX1_rows_99 : decode cX1_rows 99 = .ok (.ishl, 1) := dk_120 (dk_at dksX1_rows_4 4 rfl rfl)
theorem dX1_rows_100 : decode cX1_rows 100 = .ok (.ior, 1) := dk_128 (dk_at dksX1_rows_4 5 rfl rfl)
theorem dX1_rows_101 : decode cX1_rows 101 = .ok (.iaload, 1) := dk_46 (dk_at dksX1_rows_4 6 rfl rfl)
theorem dX1_rows_102 : decode cX1_rows 102 = .ok (.iadd, 1) := dk_96 (dk_at dksX1_rows_4 7 rfl rfl)
theorem dX1_rows_103 : decode cX1_rows 103 = .ok (.invokestatic 270, 3) := dk_184 1 14 (dk_at dksX1_rows_4 8 rfl rfl)
theorem dX1_rows_106 : decode cX1_rows 106 = .ok (.iastore, 1) := dk_79 (dk_at dksX1_rows_4 11 rfl rfl)
theorem dX1_rows_107 : decode cX1_rows 107 = .ok (.iinc 6 1, 3) := dk_132 6 1 (dk_at dksX1_rows_4 12 rfl rfl)
theorem dX1_rows_110 : decode cX1_rows 110 = .ok (.goto (-56), 3) := dk_167 255 200 (dk_at dksX1_rows_4 15 rfl rfl)
theorem dX1_rows_113 : decode cX1_rows 113 = .ok (.iinc 4 1, 3) := dk_132 4 1 (dk_at dksX1_rows_4 18 rfl rfl)
theorem dX1_rows_116 : decode cX1_rows 116 = .ok (.goto (-86), 3) := dk_167 255 170 (dk_at dksX1_rows_4 21 rfl rfl)
theorem dX1_rows_119 : decode cX1_rows 119 = .ok (.iinc 3 (-1), 3) := dk_132 3 255 (dk_at dksX1_rows_5 0 rfl rfl)
theorem dX1_rows_122 : decode cX1_rows 122 = .ok (.goto (-99), 3) := dk_167 255 157 (dk_at dksX1_rows_5 3 rfl rfl)
theorem dX1_rows_125 : decode cX1_rows 125 = .ok (.aload_n 2, 1) := dk_44 (dk_at dksX1_rows_5 6 rfl rfl)
theorem dX1_rows_126 : decode cX1_rows 126 = .ok (.areturn, 1) := dk_176 (dk_at dksX1_rows_5 7 rfl rfl)
abbrev cX1_toForge : ByteArray := prog_1_method_46_code
def yX1_toForge : MethodName := ⟨RX1, "toForge", "(II)I"⟩
def dkwX1_toForge_2 : List UInt8 := [182, 1, 30, 42, 180, 0, 22, 180, 0, 104, 100, 184, 1, 14, 172]
abbrev dktX1_toForge_2 : List UInt8 := dkwX1_toForge_2 ++ []
def dkwX1_toForge_1 : List UInt8 := [154, 0, 14, 42, 180, 0, 31, 28, 182, 0, 236, 153, 0, 5, 2, 172, 3, 42, 180, 0, 31, 27, 28]
abbrev dktX1_toForge_1 : List UInt8 := dkwX1_toForge_1 ++ dktX1_toForge_2
def dkwX1_toForge_0 : List UInt8 := [42, 27, 182, 0, 129, 42, 28, 182, 0, 129, 27, 28, 159, 0, 25, 42, 180, 0, 31, 27, 182, 0, 236]
abbrev dktX1_toForge_0 : List UInt8 := dkwX1_toForge_0 ++ dktX1_toForge_1
theorem dksX1_toForge_0 : cX1_toForge.data.toList.drop 0 = dktX1_toForge_0 := by decide +kernel
theorem dksX1_toForge_1 : cX1_toForge.data.toList.drop 23 = dktX1_toForge_1 := dk_seg dksX1_toForge_0 23 rfl rfl
theorem dksX1_toForge_2 : cX1_toForge.data.toList.drop 46 = dktX1_toForge_2 := dk_seg dksX1_toForge_1 23 rfl rfl
theorem dX1_toForge_0 : decode cX1_toForge 0 = .ok (.aload_n 0, 1) := dk_42 (dk_at dksX1_toForge_0 0 rfl rfl)
theorem dX1_toForge_1 : decode cX1_toForge 1 = .ok (.iload_n 1, 1) := dk_27 (dk_at dksX1_toForge_0 1 rfl rfl)
theorem dX1_toForge_2 : decode cX1_toForge 2 = .ok (.invokevirtual 129, 3) := dk_182 0 129 (dk_at dksX1_toForge_0 2 rfl rfl)
theorem dX1_toForge_5 : decode cX1_toForge 5 = .ok (.aload_n 0, 1) := dk_42 (dk_at dksX1_toForge_0 5 rfl rfl)
theorem dX1_toForge_6 : decode cX1_toForge 6 = .ok (.iload_n 2, 1) := dk_28 (dk_at dksX1_toForge_0 6 rfl rfl)
theorem dX1_toForge_7 : decode cX1_toForge 7 = .ok (.invokevirtual 129, 3) := dk_182 0 129 (dk_at dksX1_toForge_0 7 rfl rfl)
theorem dX1_toForge_10 : decode cX1_toForge 10 = .ok (.iload_n 1, 1) := dk_27 (dk_at dksX1_toForge_0 10 rfl rfl)
theorem dX1_toForge_11 : decode cX1_toForge 11 = .ok (.iload_n 2, 1) := dk_28 (dk_at dksX1_toForge_0 11 rfl rfl)
theorem dX1_toForge_12 : decode cX1_toForge 12 = .ok (.if_icmp .eq 25, 3) := dk_159 0 25 (dk_at dksX1_toForge_0 12 rfl rfl)
theorem dX1_toForge_15 : decode cX1_toForge 15 = .ok (.aload_n 0, 1) := dk_42 (dk_at dksX1_toForge_0 15 rfl rfl)
theorem dX1_toForge_16 : decode cX1_toForge 16 = .ok (.getfield 31, 3) := dk_180 0 31 (dk_at dksX1_toForge_0 16 rfl rfl)
theorem dX1_toForge_19 : decode cX1_toForge 19 = .ok (.iload_n 1, 1) := dk_27 (dk_at dksX1_toForge_0 19 rfl rfl)
theorem dX1_toForge_20 : decode cX1_toForge 20 = .ok (.invokevirtual 236, 3) := dk_182 0 236 (dk_at dksX1_toForge_0 20 rfl rfl)
theorem dX1_toForge_23 : decode cX1_toForge 23 = .ok (.ifCond .ne 14, 3) := dk_154 0 14 (dk_at dksX1_toForge_1 0 rfl rfl)
theorem dX1_toForge_26 : decode cX1_toForge 26 = .ok (.aload_n 0, 1) := dk_42 (dk_at dksX1_toForge_1 3 rfl rfl)
theorem dX1_toForge_27 : decode cX1_toForge 27 = .ok (.getfield 31, 3) := dk_180 0 31 (dk_at dksX1_toForge_1 4 rfl rfl)
theorem dX1_toForge_30 : decode cX1_toForge 30 = .ok (.iload_n 2, 1) := dk_28 (dk_at dksX1_toForge_1 7 rfl rfl)
theorem dX1_toForge_31 : decode cX1_toForge 31 = .ok (.invokevirtual 236, 3) := dk_182 0 236 (dk_at dksX1_toForge_1 8 rfl rfl)
theorem dX1_toForge_34 : decode cX1_toForge 34 = .ok (.ifCond .eq 5, 3) := dk_153 0 5 (dk_at dksX1_toForge_1 11 rfl rfl)
theorem dX1_toForge_37 : decode cX1_toForge 37 = .ok (.iconst (-1), 1) := dk_2 (dk_at dksX1_toForge_1 14 rfl rfl)
theorem dX1_toForge_38 : decode cX1_toForge 38 = .ok (.ireturn, 1) := dk_172 (dk_at dksX1_toForge_1 15 rfl rfl)
theorem dX1_toForge_39 : decode cX1_toForge 39 = .ok (.iconst 0, 1) := dk_3 (dk_at dksX1_toForge_1 16 rfl rfl)
theorem dX1_toForge_40 : decode cX1_toForge 40 = .ok (.aload_n 0, 1) := dk_42 (dk_at dksX1_toForge_1 17 rfl rfl)
theorem dX1_toForge_41 : decode cX1_toForge 41 = .ok (.getfield 31, 3) := dk_180 0 31 (dk_at dksX1_toForge_1 18 rfl rfl)
theorem dX1_toForge_44 : decode cX1_toForge 44 = .ok (.iload_n 1, 1) := dk_27 (dk_at dksX1_toForge_1 21 rfl rfl)
theorem dX1_toForge_45 : decode cX1_toForge 45 = .ok (.iload_n 2, 1) := dk_28 (dk_at dksX1_toForge_1 22 rfl rfl)
theorem dX1_toForge_46 : decode cX1_toForge 46 = .ok (.invokevirtual 286, 3) := dk_182 1 30 (dk_at dksX1_toForge_2 0 rfl rfl)
theorem dX1_toForge_49 : decode cX1_toForge 49 = .ok (.aload_n 0, 1) := dk_42 (dk_at dksX1_toForge_2 3 rfl rfl)
theorem dX1_toForge_50 : decode cX1_toForge 50 = .ok (.getfield 22, 3) := dk_180 0 22 (dk_at dksX1_toForge_2 4 rfl rfl)
theorem dX1_toForge_53 : decode cX1_toForge 53 = .ok (.getfield 104, 3) := dk_180 0 104 (dk_at dksX1_toForge_2 7 rfl rfl)
theorem dX1_toForge_56 : decode cX1_toForge 56 = .ok (.isub, 1) := dk_100 (dk_at dksX1_toForge_2 10 rfl rfl)
theorem dX1_toForge_57 : decode cX1_toForge 57 = .ok (.invokestatic 270, 3) := dk_184 1 14 (dk_at dksX1_toForge_2 11 rfl rfl)
theorem dX1_toForge_60 : decode cX1_toForge 60 = .ok (.ireturn, 1) := dk_172 (dk_at dksX1_toForge_2 14 rfl rfl)
abbrev cX1_toSave : ByteArray := prog_1_method_47_code
def yX1_toSave : MethodName := ⟨RX1, "toSave", "(I)I"⟩
def dkwX1_toSave_4 : List UInt8 := [172]
abbrev dktX1_toSave_4 : List UInt8 := dkwX1_toSave_4 ++ []
def dkwX1_toSave_3 : List UInt8 := [21, 6, 21, 4, 161, 0, 6, 167, 0, 10, 21, 5, 62, 21, 6, 54, 4, 132, 5, 1, 167, 255, 195, 29]
abbrev dktX1_toSave_3 : List UInt8 := dkwX1_toSave_3 ++ dktX1_toSave_4
def dkwX1_toSave_2 : List UInt8 := [154, 0, 6, 167, 0, 37, 42, 28, 4, 21, 5, 120, 2, 130, 126, 182, 0, 206, 184, 1, 7, 54, 6]
abbrev dktX1_toSave_2 : List UInt8 := dkwX1_toSave_2 ++ dktX1_toSave_3
def dkwX1_toSave_1 : List UInt8 := [54, 4, 3, 54, 5, 21, 5, 42, 180, 0, 22, 180, 0, 89, 162, 0, 55, 28, 21, 5, 184, 0, 171]
abbrev dktX1_toSave_1 : List UInt8 := dkwX1_toSave_1 ++ dktX1_toSave_2
def dkwX1_toSave_0 : List UInt8 := [27, 184, 0, 194, 42, 180, 0, 31, 27, 182, 0, 197, 61, 2, 62, 42, 28, 182, 0, 206, 184, 1, 7]
abbrev dktX1_toSave_0 : List UInt8 := dkwX1_toSave_0 ++ dktX1_toSave_1
theorem dksX1_toSave_0 : cX1_toSave.data.toList.drop 0 = dktX1_toSave_0 := by decide +kernel
theorem dksX1_toSave_1 : cX1_toSave.data.toList.drop 23 = dktX1_toSave_1 := dk_seg dksX1_toSave_0 23 rfl rfl
theorem dksX1_toSave_2 : cX1_toSave.data.toList.drop 46 = dktX1_toSave_2 := dk_seg dksX1_toSave_1 23 rfl rfl
theorem dksX1_toSave_3 : cX1_toSave.data.toList.drop 69 = dktX1_toSave_3 := dk_seg dksX1_toSave_2 23 rfl rfl
theorem dksX1_toSave_4 : cX1_toSave.data.toList.drop 93 = dktX1_toSave_4 := dk_seg dksX1_toSave_3 24 rfl rfl
theorem dX1_toSave_0 : decode cX1_toSave 0 = .ok (.iload_n 1, 1) := dk_27 (dk_at dksX1_toSave_0 0 rfl rfl)
theorem dX1_toSave_1 : decode cX1_toSave 1 = .ok (.invokestatic 194, 3) := dk_184 0 194 (dk_at dksX1_toSave_0 1 rfl rfl)
theorem dX1_toSave_4 : decode cX1_toSave 4 = .ok (.aload_n 0, 1) := dk_42 (dk_at dksX1_toSave_0 4 rfl rfl)
theorem dX1_toSave_5 : decode cX1_toSave 5 = .ok (.getfield 31, 3) := dk_180 0 31 (dk_at dksX1_toSave_0 5 rfl rfl)
theorem dX1_toSave_8 : decode cX1_toSave 8 = .ok (.iload_n 1, 1) := dk_27 (dk_at dksX1_toSave_0 8 rfl rfl)
theorem dX1_toSave_9 : decode cX1_toSave 9 = .ok (.invokevirtual 197, 3) := dk_182 0 197 (dk_at dksX1_toSave_0 9 rfl rfl)
theorem dX1_toSave_12 : decode cX1_toSave 12 = .ok (.istore_n 2, 1) := dk_61 (dk_at dksX1_toSave_0 12 rfl rfl)
theorem dX1_toSave_13 : decode cX1_toSave 13 = .ok (.iconst (-1), 1) := dk_2 (dk_at dksX1_toSave_0 13 rfl rfl)
theorem dX1_toSave_14 : decode cX1_toSave 14 = .ok (.istore_n 3, 1) := dk_62 (dk_at dksX1_toSave_0 14 rfl rfl)
theorem dX1_toSave_15 : decode cX1_toSave 15 = .ok (.aload_n 0, 1) := dk_42 (dk_at dksX1_toSave_0 15 rfl rfl)
theorem dX1_toSave_16 : decode cX1_toSave 16 = .ok (.iload_n 2, 1) := dk_28 (dk_at dksX1_toSave_0 16 rfl rfl)
theorem dX1_toSave_17 : decode cX1_toSave 17 = .ok (.invokevirtual 206, 3) := dk_182 0 206 (dk_at dksX1_toSave_0 17 rfl rfl)
theorem dX1_toSave_20 : decode cX1_toSave 20 = .ok (.invokestatic 263, 3) := dk_184 1 7 (dk_at dksX1_toSave_0 20 rfl rfl)
theorem dX1_toSave_23 : decode cX1_toSave 23 = .ok (.istore 4, 2) := dk_54 4 (dk_at dksX1_toSave_1 0 rfl rfl)
theorem dX1_toSave_25 : decode cX1_toSave 25 = .ok (.iconst 0, 1) := dk_3 (dk_at dksX1_toSave_1 2 rfl rfl)
theorem dX1_toSave_26 : decode cX1_toSave 26 = .ok (.istore 5, 2) := dk_54 5 (dk_at dksX1_toSave_1 3 rfl rfl)
theorem dX1_toSave_28 : decode cX1_toSave 28 = .ok (.iload 5, 2) := dk_21 5 (dk_at dksX1_toSave_1 5 rfl rfl)
theorem dX1_toSave_30 : decode cX1_toSave 30 = .ok (.aload_n 0, 1) := dk_42 (dk_at dksX1_toSave_1 7 rfl rfl)
theorem dX1_toSave_31 : decode cX1_toSave 31 = .ok (.getfield 22, 3) := dk_180 0 22 (dk_at dksX1_toSave_1 8 rfl rfl)
theorem dX1_toSave_34 : decode cX1_toSave 34 = .ok (.getfield 89, 3) := dk_180 0 89 (dk_at dksX1_toSave_1 11 rfl rfl)
theorem dX1_toSave_37 : decode cX1_toSave 37 = .ok (.if_icmp .ge 55, 3) := dk_162 0 55 (dk_at dksX1_toSave_1 14 rfl rfl)
theorem dX1_toSave_40 : decode cX1_toSave 40 = .ok (.iload_n 2, 1) := dk_28 (dk_at dksX1_toSave_1 17 rfl rfl)
theorem dX1_toSave_41 : decode cX1_toSave 41 = .ok (.iload 5, 2) := dk_21 5 (dk_at dksX1_toSave_1 18 rfl rfl)
theorem dX1_toSave_43 : decode cX1_toSave 43 = .ok (.invokestatic 171, 3) := dk_184 0 171 (dk_at dksX1_toSave_1 20 rfl rfl)
theorem dX1_toSave_46 : decode cX1_toSave 46 = .ok (.ifCond .ne 6, 3) := dk_154 0 6 (dk_at dksX1_toSave_2 0 rfl rfl)
theorem dX1_toSave_49 : decode cX1_toSave 49 = .ok (.goto 37, 3) := dk_167 0 37 (dk_at dksX1_toSave_2 3 rfl rfl)
theorem dX1_toSave_52 : decode cX1_toSave 52 = .ok (.aload_n 0, 1) := dk_42 (dk_at dksX1_toSave_2 6 rfl rfl)
theorem dX1_toSave_53 : decode cX1_toSave 53 = .ok (.iload_n 2, 1) := dk_28 (dk_at dksX1_toSave_2 7 rfl rfl)
theorem dX1_toSave_54 : decode cX1_toSave 54 = .ok (.iconst 1, 1) := dk_4 (dk_at dksX1_toSave_2 8 rfl rfl)
theorem dX1_toSave_55 : decode cX1_toSave 55 = .ok (.iload 5, 2) := dk_21 5 (dk_at dksX1_toSave_2 9 rfl rfl)
theorem dX1_toSave_57 : decode cX1_toSave 57 = .ok (.ishl, 1) := dk_120 (dk_at dksX1_toSave_2 11 rfl rfl)
theorem dX1_toSave_58 : decode cX1_toSave 58 = .ok (.iconst (-1), 1) := dk_2 (dk_at dksX1_toSave_2 12 rfl rfl)
theorem dX1_toSave_59 : decode cX1_toSave 59 = .ok (.ixor, 1) := dk_130 (dk_at dksX1_toSave_2 13 rfl rfl)
theorem dX1_toSave_60 : decode cX1_toSave 60 = .ok (.iand, 1) := dk_126 (dk_at dksX1_toSave_2 14 rfl rfl)
theorem dX1_toSave_61 : decode cX1_toSave 61 = .ok (.invokevirtual 206, 3) := dk_182 0 206 (dk_at dksX1_toSave_2 15 rfl rfl)
theorem dX1_toSave_64 : decode cX1_toSave 64 = .ok (.invokestatic 263, 3) := dk_184 1 7 (dk_at dksX1_toSave_2 18 rfl rfl)
theorem dX1_toSave_67 : decode cX1_toSave 67 = .ok (.istore 6, 2) := dk_54 6 (dk_at dksX1_toSave_2 21 rfl rfl)
theorem dX1_toSave_69 : decode cX1_toSave 69 = .ok (.iload 6, 2) := dk_21 6 (dk_at dksX1_toSave_3 0 rfl rfl)
theorem dX1_toSave_71 : decode cX1_toSave 71 = .ok (.iload 4, 2) := dk_21 4 (dk_at dksX1_toSave_3 2 rfl rfl)
theorem dX1_toSave_73 : decode cX1_toSave 73 = .ok (.if_icmp .lt 6, 3) := dk_161 0 6 (dk_at dksX1_toSave_3 4 rfl rfl)
theorem dX1_toSave_76 : decode cX1_toSave 76 = .ok (.goto 10, 3) := dk_167 0 10 (dk_at dksX1_toSave_3 7 rfl rfl)
theorem dX1_toSave_79 : decode cX1_toSave 79 = .ok (.iload 5, 2) := dk_21 5 (dk_at dksX1_toSave_3 10 rfl rfl)
theorem dX1_toSave_81 : decode cX1_toSave 81 = .ok (.istore_n 3, 1) := dk_62 (dk_at dksX1_toSave_3 12 rfl rfl)
theorem dX1_toSave_82 : decode cX1_toSave 82 = .ok (.iload 6, 2) := dk_21 6 (dk_at dksX1_toSave_3 13 rfl rfl)
theorem dX1_toSave_84 : decode cX1_toSave 84 = .ok (.istore 4, 2) := dk_54 4 (dk_at dksX1_toSave_3 15 rfl rfl)
theorem dX1_toSave_86 : decode cX1_toSave 86 = .ok (.iinc 5 1, 3) := dk_132 5 1 (dk_at dksX1_toSave_3 17 rfl rfl)
theorem dX1_toSave_89 : decode cX1_toSave 89 = .ok (.goto (-61), 3) := dk_167 255 195 (dk_at dksX1_toSave_3 20 rfl rfl)
theorem dX1_toSave_92 : decode cX1_toSave 92 = .ok (.iload_n 3, 1) := dk_29 (dk_at dksX1_toSave_3 23 rfl rfl)
theorem dX1_toSave_93 : decode cX1_toSave 93 = .ok (.ireturn, 1) := dk_172 (dk_at dksX1_toSave_4 0 rfl rfl)
abbrev cX1_chain : ByteArray := prog_1_method_37_code
def yX1_chain : MethodName := ⟨RX1, "chain", "(II)I"⟩
def dkwX1_chain_0 : List UInt8 := [42, 27, 182, 0, 152, 42, 28, 182, 0, 179, 42, 27, 28, 4, 182, 1, 4, 172]
abbrev dktX1_chain_0 : List UInt8 := dkwX1_chain_0 ++ []
theorem dksX1_chain_0 : cX1_chain.data.toList.drop 0 = dktX1_chain_0 := by decide +kernel
theorem dX1_chain_0 : decode cX1_chain 0 = .ok (.aload_n 0, 1) := dk_42 (dk_at dksX1_chain_0 0 rfl rfl)
theorem dX1_chain_1 : decode cX1_chain 1 = .ok (.iload_n 1, 1) := dk_27 (dk_at dksX1_chain_0 1 rfl rfl)
theorem dX1_chain_2 : decode cX1_chain 2 = .ok (.invokevirtual 152, 3) := dk_182 0 152 (dk_at dksX1_chain_0 2 rfl rfl)
theorem dX1_chain_5 : decode cX1_chain 5 = .ok (.aload_n 0, 1) := dk_42 (dk_at dksX1_chain_0 5 rfl rfl)
theorem dX1_chain_6 : decode cX1_chain 6 = .ok (.iload_n 2, 1) := dk_28 (dk_at dksX1_chain_0 6 rfl rfl)
theorem dX1_chain_7 : decode cX1_chain 7 = .ok (.invokevirtual 179, 3) := dk_182 0 179 (dk_at dksX1_chain_0 7 rfl rfl)
theorem dX1_chain_10 : decode cX1_chain 10 = .ok (.aload_n 0, 1) := dk_42 (dk_at dksX1_chain_0 10 rfl rfl)
theorem dX1_chain_11 : decode cX1_chain 11 = .ok (.iload_n 1, 1) := dk_27 (dk_at dksX1_chain_0 11 rfl rfl)
theorem dX1_chain_12 : decode cX1_chain 12 = .ok (.iload_n 2, 1) := dk_28 (dk_at dksX1_chain_0 12 rfl rfl)
theorem dX1_chain_13 : decode cX1_chain 13 = .ok (.iconst 1, 1) := dk_4 (dk_at dksX1_chain_0 13 rfl rfl)
theorem dX1_chain_14 : decode cX1_chain 14 = .ok (.invokevirtual 260, 3) := dk_182 1 4 (dk_at dksX1_chain_0 14 rfl rfl)
theorem dX1_chain_17 : decode cX1_chain 17 = .ok (.ireturn, 1) := dk_172 (dk_at dksX1_chain_0 17 rfl rfl)
abbrev cX1_hear : ByteArray := prog_1_method_50_code
def yX1_hear : MethodName := ⟨RX1, "hear", "(IIIZ)I"⟩
def dkwX1_hear_3 : List UInt8 := [185, 0, 213, 2, 0, 87, 42, 180, 0, 56, 185, 0, 99, 1, 0, 172]
abbrev dktX1_hear_3 : List UInt8 := dkwX1_hear_3 ++ []
def dkwX1_hear_2 : List UInt8 := [3, 27, 79, 89, 4, 28, 79, 89, 5, 29, 79, 89, 6, 21, 4, 153, 0, 7, 4, 167, 0, 4, 3, 79]
abbrev dktX1_hear_2 : List UInt8 := dkwX1_hear_2 ++ dktX1_hear_3
def dkwX1_hear_1 : List UInt8 := [29, 3, 16, 12, 184, 0, 122, 154, 0, 9, 42, 5, 182, 0, 220, 172, 42, 180, 0, 56, 7, 188, 10, 89]
abbrev dktX1_hear_1 : List UInt8 := dkwX1_hear_1 ++ dktX1_hear_2
def dkwX1_hear_0 : List UInt8 := [42, 27, 182, 0, 152, 42, 28, 182, 0, 179, 42, 180, 0, 56, 185, 0, 99, 1, 0, 16, 8, 159, 0, 13]
abbrev dktX1_hear_0 : List UInt8 := dkwX1_hear_0 ++ dktX1_hear_1
theorem dksX1_hear_0 : cX1_hear.data.toList.drop 0 = dktX1_hear_0 := by decide +kernel
theorem dksX1_hear_1 : cX1_hear.data.toList.drop 24 = dktX1_hear_1 := dk_seg dksX1_hear_0 24 rfl rfl
theorem dksX1_hear_2 : cX1_hear.data.toList.drop 48 = dktX1_hear_2 := dk_seg dksX1_hear_1 24 rfl rfl
theorem dksX1_hear_3 : cX1_hear.data.toList.drop 72 = dktX1_hear_3 := dk_seg dksX1_hear_2 24 rfl rfl
theorem dX1_hear_0 : decode cX1_hear 0 = .ok (.aload_n 0, 1) := dk_42 (dk_at dksX1_hear_0 0 rfl rfl)
theorem dX1_hear_1 : decode cX1_hear 1 = .ok (.iload_n 1, 1) := dk_27 (dk_at dksX1_hear_0 1 rfl rfl)
theorem dX1_hear_2 : decode cX1_hear 2 = .ok (.invokevirtual 152, 3) := dk_182 0 152 (dk_at dksX1_hear_0 2 rfl rfl)
theorem dX1_hear_5 : decode cX1_hear 5 = .ok (.aload_n 0, 1) := dk_42 (dk_at dksX1_hear_0 5 rfl rfl)
theorem dX1_hear_6 : decode cX1_hear 6 = .ok (.iload_n 2, 1) := dk_28 (dk_at dksX1_hear_0 6 rfl rfl)
theorem dX1_hear_7 : decode cX1_hear 7 = .ok (.invokevirtual 179, 3) := dk_182 0 179 (dk_at dksX1_hear_0 7 rfl rfl)
theorem dX1_hear_10 : decode cX1_hear 10 = .ok (.aload_n 0, 1) := dk_42 (dk_at dksX1_hear_0 10 rfl rfl)
theorem dX1_hear_11 : decode cX1_hear 11 = .ok (.getfield 56, 3) := dk_180 0 56 (dk_at dksX1_hear_0 11 rfl rfl)
theorem dX1_hear_14 : decode cX1_hear 14 = .ok (.invokeinterface 99 1, 5) := by decide +kernel
theorem dX1_hear_19 : decode cX1_hear 19 = .ok (.bipush 8, 2) := dk_16 8 (dk_at dksX1_hear_0 19 rfl rfl)
theorem dX1_hear_21 : decode cX1_hear 21 = .ok (.if_icmp .eq 13, 3) := dk_159 0 13 (dk_at dksX1_hear_0 21 rfl rfl)
theorem dX1_hear_24 : decode cX1_hear 24 = .ok (.iload_n 3, 1) := dk_29 (dk_at dksX1_hear_1 0 rfl rfl)
theorem dX1_hear_25 : decode cX1_hear 25 = .ok (.iconst 0, 1) := dk_3 (dk_at dksX1_hear_1 1 rfl rfl)
theorem dX1_hear_26 : decode cX1_hear 26 = .ok (.bipush 12, 2) := dk_16 12 (dk_at dksX1_hear_1 2 rfl rfl)
theorem dX1_hear_28 : decode cX1_hear 28 = .ok (.invokestatic 122, 3) := dk_184 0 122 (dk_at dksX1_hear_1 4 rfl rfl)
theorem dX1_hear_31 : decode cX1_hear 31 = .ok (.ifCond .ne 9, 3) := dk_154 0 9 (dk_at dksX1_hear_1 7 rfl rfl)
theorem dX1_hear_34 : decode cX1_hear 34 = .ok (.aload_n 0, 1) := dk_42 (dk_at dksX1_hear_1 10 rfl rfl)
theorem dX1_hear_35 : decode cX1_hear 35 = .ok (.iconst 2, 1) := dk_5 (dk_at dksX1_hear_1 11 rfl rfl)
theorem dX1_hear_36 : decode cX1_hear 36 = .ok (.invokevirtual 220, 3) := dk_182 0 220 (dk_at dksX1_hear_1 12 rfl rfl)
theorem dX1_hear_39 : decode cX1_hear 39 = .ok (.ireturn, 1) := dk_172 (dk_at dksX1_hear_1 15 rfl rfl)
theorem dX1_hear_40 : decode cX1_hear 40 = .ok (.aload_n 0, 1) := dk_42 (dk_at dksX1_hear_1 16 rfl rfl)
theorem dX1_hear_41 : decode cX1_hear 41 = .ok (.getfield 56, 3) := dk_180 0 56 (dk_at dksX1_hear_1 17 rfl rfl)
theorem dX1_hear_44 : decode cX1_hear 44 = .ok (.iconst 4, 1) := dk_7 (dk_at dksX1_hear_1 20 rfl rfl)
theorem dX1_hear_45 : decode cX1_hear 45 = .ok (.newarray .int, 2) := dk_188_10 (dk_at dksX1_hear_1 21 rfl rfl)
theorem dX1_hear_47 : decode cX1_hear 47 = .ok (.dup, 1) := dk_89 (dk_at dksX1_hear_1 23 rfl rfl)
theorem dX1_hear_48 : decode cX1_hear 48 = .ok (.iconst 0, 1) := dk_3 (dk_at dksX1_hear_2 0 rfl rfl)
theorem dX1_hear_49 : decode cX1_hear 49 = .ok (.iload_n 1, 1) := dk_27 (dk_at dksX1_hear_2 1 rfl rfl)
theorem dX1_hear_50 : decode cX1_hear 50 = .ok (.iastore, 1) := dk_79 (dk_at dksX1_hear_2 2 rfl rfl)
theorem dX1_hear_51 : decode cX1_hear 51 = .ok (.dup, 1) := dk_89 (dk_at dksX1_hear_2 3 rfl rfl)
theorem dX1_hear_52 : decode cX1_hear 52 = .ok (.iconst 1, 1) := dk_4 (dk_at dksX1_hear_2 4 rfl rfl)
theorem dX1_hear_53 : decode cX1_hear 53 = .ok (.iload_n 2, 1) := dk_28 (dk_at dksX1_hear_2 5 rfl rfl)
theorem dX1_hear_54 : decode cX1_hear 54 = .ok (.iastore, 1) := dk_79 (dk_at dksX1_hear_2 6 rfl rfl)
theorem dX1_hear_55 : decode cX1_hear 55 = .ok (.dup, 1) := dk_89 (dk_at dksX1_hear_2 7 rfl rfl)
theorem dX1_hear_56 : decode cX1_hear 56 = .ok (.iconst 2, 1) := dk_5 (dk_at dksX1_hear_2 8 rfl rfl)
theorem dX1_hear_57 : decode cX1_hear 57 = .ok (.iload_n 3, 1) := dk_29 (dk_at dksX1_hear_2 9 rfl rfl)
theorem dX1_hear_58 : decode cX1_hear 58 = .ok (.iastore, 1) := dk_79 (dk_at dksX1_hear_2 10 rfl rfl)
theorem dX1_hear_59 : decode cX1_hear 59 = .ok (.dup, 1) := dk_89 (dk_at dksX1_hear_2 11 rfl rfl)
theorem dX1_hear_60 : decode cX1_hear 60 = .ok (.iconst 3, 1) := dk_6 (dk_at dksX1_hear_2 12 rfl rfl)
theorem dX1_hear_61 : decode cX1_hear 61 = .ok (.iload 4, 2) := dk_21 4 (dk_at dksX1_hear_2 13 rfl rfl)
theorem dX1_hear_63 : decode cX1_hear 63 = .ok (.ifCond .eq 7, 3) := dk_153 0 7 (dk_at dksX1_hear_2 15 rfl rfl)
theorem dX1_hear_66 : decode cX1_hear 66 = .ok (.iconst 1, 1) := dk_4 (dk_at dksX1_hear_2 18 rfl rfl)
theorem dX1_hear_67 : decode cX1_hear 67 = .ok (.goto 4, 3) := dk_167 0 4 (dk_at dksX1_hear_2 19 rfl rfl)
theorem dX1_hear_70 : decode cX1_hear 70 = .ok (.iconst 0, 1) := dk_3 (dk_at dksX1_hear_2 22 rfl rfl)
theorem dX1_hear_71 : decode cX1_hear 71 = .ok (.iastore, 1) := dk_79 (dk_at dksX1_hear_2 23 rfl rfl)
theorem dX1_hear_72 : decode cX1_hear 72 = .ok (.invokeinterface 213 2, 5) := by decide +kernel
theorem dX1_hear_77 : decode cX1_hear 77 = .ok (.pop, 1) := dk_87 (dk_at dksX1_hear_3 5 rfl rfl)
theorem dX1_hear_78 : decode cX1_hear 78 = .ok (.aload_n 0, 1) := dk_42 (dk_at dksX1_hear_3 6 rfl rfl)
theorem dX1_hear_79 : decode cX1_hear 79 = .ok (.getfield 56, 3) := dk_180 0 56 (dk_at dksX1_hear_3 7 rfl rfl)
theorem dX1_hear_82 : decode cX1_hear 82 = .ok (.invokeinterface 99 1, 5) := by decide +kernel
theorem dX1_hear_87 : decode cX1_hear 87 = .ok (.ireturn, 1) := dk_172 (dk_at dksX1_hear_3 15 rfl rfl)
abbrev cX1_borne : ByteArray := prog_1_method_54_code
def yX1_borne : MethodName := ⟨RX1, "borne", "(I)I"⟩
def dkwX1_borne_3 : List UInt8 := [185, 0, 167, 2, 0, 192, 1, 8, 182, 1, 44, 172]
abbrev dktX1_borne_3 : List UInt8 := dkwX1_borne_3 ++ []
def dkwX1_borne_2 : List UInt8 := [185, 0, 99, 1, 0, 167, 0, 29, 44, 185, 0, 243, 1, 0, 153, 0, 7, 2, 167, 0, 16, 44, 3]
abbrev dktX1_borne_2 : List UInt8 := dkwX1_borne_2 ++ dktX1_borne_3
def dkwX1_borne_1 : List UInt8 := [182, 1, 33, 153, 0, 7, 4, 167, 0, 4, 3, 172, 42, 182, 1, 40, 77, 27, 154, 0, 12, 44]
abbrev dktX1_borne_1 : List UInt8 := dkwX1_borne_1 ++ dktX1_borne_2
def dkwX1_borne_0 : List UInt8 := [27, 5, 184, 0, 133, 27, 5, 160, 0, 28, 42, 180, 0, 35, 42, 180, 0, 31, 182, 0, 247, 87, 42]
abbrev dktX1_borne_0 : List UInt8 := dkwX1_borne_0 ++ dktX1_borne_1
theorem dksX1_borne_0 : cX1_borne.data.toList.drop 0 = dktX1_borne_0 := by decide +kernel
theorem dksX1_borne_1 : cX1_borne.data.toList.drop 23 = dktX1_borne_1 := dk_seg dksX1_borne_0 23 rfl rfl
theorem dksX1_borne_2 : cX1_borne.data.toList.drop 45 = dktX1_borne_2 := dk_seg dksX1_borne_1 22 rfl rfl
theorem dksX1_borne_3 : cX1_borne.data.toList.drop 68 = dktX1_borne_3 := dk_seg dksX1_borne_2 23 rfl rfl
theorem dX1_borne_0 : decode cX1_borne 0 = .ok (.iload_n 1, 1) := dk_27 (dk_at dksX1_borne_0 0 rfl rfl)
theorem dX1_borne_1 : decode cX1_borne 1 = .ok (.iconst 2, 1) := dk_5 (dk_at dksX1_borne_0 1 rfl rfl)
theorem dX1_borne_2 : decode cX1_borne 2 = .ok (.invokestatic 133, 3) := dk_184 0 133 (dk_at dksX1_borne_0 2 rfl rfl)
theorem dX1_borne_5 : decode cX1_borne 5 = .ok (.iload_n 1, 1) := dk_27 (dk_at dksX1_borne_0 5 rfl rfl)
theorem dX1_borne_6 : decode cX1_borne 6 = .ok (.iconst 2, 1) := dk_5 (dk_at dksX1_borne_0 6 rfl rfl)
theorem dX1_borne_7 : decode cX1_borne 7 = .ok (.if_icmp .ne 28, 3) := dk_160 0 28 (dk_at dksX1_borne_0 7 rfl rfl)
theorem dX1_borne_10 : decode cX1_borne 10 = .ok (.aload_n 0, 1) := dk_42 (dk_at dksX1_borne_0 10 rfl rfl)
theorem dX1_borne_11 : decode cX1_borne 11 = .ok (.getfield 35, 3) := dk_180 0 35 (dk_at dksX1_borne_0 11 rfl rfl)
theorem dX1_borne_14 : decode cX1_borne 14 = .ok (.aload_n 0, 1) := dk_42 (dk_at dksX1_borne_0 14 rfl rfl)
theorem dX1_borne_15 : decode cX1_borne 15 = .ok (.getfield 31, 3) := dk_180 0 31 (dk_at dksX1_borne_0 15 rfl rfl)
theorem dX1_borne_18 : decode cX1_borne 18 = .ok (.invokevirtual 247, 3) := dk_182 0 247 (dk_at dksX1_borne_0 18 rfl rfl)
theorem dX1_borne_21 : decode cX1_borne 21 = .ok (.pop, 1) := dk_87 (dk_at dksX1_borne_0 21 rfl rfl)
theorem dX1_borne_22 : decode cX1_borne 22 = .ok (.aload_n 0, 1) := dk_42 (dk_at dksX1_borne_0 22 rfl rfl)
theorem dX1_borne_23 : decode cX1_borne 23 = .ok (.invokevirtual 289, 3) := dk_182 1 33 (dk_at dksX1_borne_1 0 rfl rfl)
theorem dX1_borne_26 : decode cX1_borne 26 = .ok (.ifCond .eq 7, 3) := dk_153 0 7 (dk_at dksX1_borne_1 3 rfl rfl)
theorem dX1_borne_29 : decode cX1_borne 29 = .ok (.iconst 1, 1) := dk_4 (dk_at dksX1_borne_1 6 rfl rfl)
theorem dX1_borne_30 : decode cX1_borne 30 = .ok (.goto 4, 3) := dk_167 0 4 (dk_at dksX1_borne_1 7 rfl rfl)
theorem dX1_borne_33 : decode cX1_borne 33 = .ok (.iconst 0, 1) := dk_3 (dk_at dksX1_borne_1 10 rfl rfl)
theorem dX1_borne_34 : decode cX1_borne 34 = .ok (.ireturn, 1) := dk_172 (dk_at dksX1_borne_1 11 rfl rfl)
theorem dX1_borne_35 : decode cX1_borne 35 = .ok (.aload_n 0, 1) := dk_42 (dk_at dksX1_borne_1 12 rfl rfl)
theorem dX1_borne_36 : decode cX1_borne 36 = .ok (.invokevirtual 296, 3) := dk_182 1 40 (dk_at dksX1_borne_1 13 rfl rfl)
theorem dX1_borne_39 : decode cX1_borne 39 = .ok (.astore_n 2, 1) := dk_77 (dk_at dksX1_borne_1 16 rfl rfl)
theorem dX1_borne_40 : decode cX1_borne 40 = .ok (.iload_n 1, 1) := dk_27 (dk_at dksX1_borne_1 17 rfl rfl)
theorem dX1_borne_41 : decode cX1_borne 41 = .ok (.ifCond .ne 12, 3) := dk_154 0 12 (dk_at dksX1_borne_1 18 rfl rfl)
theorem dX1_borne_44 : decode cX1_borne 44 = .ok (.aload_n 2, 1) := dk_44 (dk_at dksX1_borne_1 21 rfl rfl)
theorem dX1_borne_45 : decode cX1_borne 45 = .ok (.invokeinterface 99 1, 5) := by decide +kernel
theorem dX1_borne_50 : decode cX1_borne 50 = .ok (.goto 29, 3) := dk_167 0 29 (dk_at dksX1_borne_2 5 rfl rfl)
theorem dX1_borne_53 : decode cX1_borne 53 = .ok (.aload_n 2, 1) := dk_44 (dk_at dksX1_borne_2 8 rfl rfl)
theorem dX1_borne_54 : decode cX1_borne 54 = .ok (.invokeinterface 243 1, 5) := by decide +kernel
theorem dX1_borne_59 : decode cX1_borne 59 = .ok (.ifCond .eq 7, 3) := dk_153 0 7 (dk_at dksX1_borne_2 14 rfl rfl)
theorem dX1_borne_62 : decode cX1_borne 62 = .ok (.iconst (-1), 1) := dk_2 (dk_at dksX1_borne_2 17 rfl rfl)
theorem dX1_borne_63 : decode cX1_borne 63 = .ok (.goto 16, 3) := dk_167 0 16 (dk_at dksX1_borne_2 18 rfl rfl)
theorem dX1_borne_66 : decode cX1_borne 66 = .ok (.aload_n 2, 1) := dk_44 (dk_at dksX1_borne_2 21 rfl rfl)
theorem dX1_borne_67 : decode cX1_borne 67 = .ok (.iconst 0, 1) := dk_3 (dk_at dksX1_borne_2 22 rfl rfl)
theorem dX1_borne_68 : decode cX1_borne 68 = .ok (.invokeinterface 167 2, 5) := by decide +kernel
theorem dX1_borne_73 : decode cX1_borne 73 = .ok (.checkcast 264, 3) := dk_192 1 8 (dk_at dksX1_borne_3 5 rfl rfl)
theorem dX1_borne_76 : decode cX1_borne 76 = .ok (.invokevirtual 300, 3) := dk_182 1 44 (dk_at dksX1_borne_3 8 rfl rfl)
theorem dX1_borne_79 : decode cX1_borne 79 = .ok (.ireturn, 1) := dk_172 (dk_at dksX1_borne_3 11 rfl rfl)
abbrev cX1_isSo : ByteArray := prog_1_method_52_code
def yX1_isSo : MethodName := ⟨RX1, "isSo", "()Z"⟩
def dkwX1_isSo_5 : List UInt8 := [132, 3, 1, 167, 255, 189, 42, 180, 0, 35, 182, 1, 1, 87, 132, 2, 1, 167, 255, 168, 4, 172]
abbrev dktX1_isSo_5 : List UInt8 := dkwX1_isSo_5 ++ []
def dkwX1_isSo_4 : List UInt8 := [180, 0, 158, 25, 4, 3, 46, 46, 25, 4, 4, 46, 122, 4, 126, 25, 4, 6, 46, 159, 0, 5, 3, 172]
abbrev dktX1_isSo_4 : List UInt8 := dkwX1_isSo_4 ++ dktX1_isSo_5
def dkwX1_isSo_3 : List UInt8 := [185, 0, 167, 2, 0, 192, 0, 175, 58, 4, 25, 4, 5, 46, 28, 160, 0, 31, 42, 180, 0, 35]
abbrev dktX1_isSo_3 : List UInt8 := dkwX1_isSo_3 ++ dktX1_isSo_4
def dkwX1_isSo_2 : List UInt8 := [163, 0, 89, 3, 62, 29, 42, 180, 0, 56, 185, 0, 99, 1, 0, 162, 0, 60, 42, 180, 0, 56, 29]
abbrev dktX1_isSo_2 : List UInt8 := dkwX1_isSo_2 ++ dktX1_isSo_3
def dkwX1_isSo_1 : List UInt8 := [185, 0, 167, 2, 0, 192, 0, 175, 5, 46, 184, 1, 14, 60, 132, 2, 1, 167, 255, 220, 3, 61, 28, 27]
abbrev dktX1_isSo_1 : List UInt8 := dkwX1_isSo_1 ++ dktX1_isSo_2
def dkwX1_isSo_0 : List UInt8 := [3, 60, 3, 61, 28, 42, 180, 0, 56, 185, 0, 99, 1, 0, 162, 0, 29, 27, 42, 180, 0, 56, 28]
abbrev dktX1_isSo_0 : List UInt8 := dkwX1_isSo_0 ++ dktX1_isSo_1
theorem dksX1_isSo_0 : cX1_isSo.data.toList.drop 0 = dktX1_isSo_0 := by decide +kernel
theorem dksX1_isSo_1 : cX1_isSo.data.toList.drop 23 = dktX1_isSo_1 := dk_seg dksX1_isSo_0 23 rfl rfl
theorem dksX1_isSo_2 : cX1_isSo.data.toList.drop 47 = dktX1_isSo_2 := dk_seg dksX1_isSo_1 24 rfl rfl
theorem dksX1_isSo_3 : cX1_isSo.data.toList.drop 70 = dktX1_isSo_3 := dk_seg dksX1_isSo_2 23 rfl rfl
theorem dksX1_isSo_4 : cX1_isSo.data.toList.drop 92 = dktX1_isSo_4 := dk_seg dksX1_isSo_3 22 rfl rfl
theorem dksX1_isSo_5 : cX1_isSo.data.toList.drop 116 = dktX1_isSo_5 := dk_seg dksX1_isSo_4 24 rfl rfl
theorem dX1_isSo_0 : decode cX1_isSo 0 = .ok (.iconst 0, 1) := dk_3 (dk_at dksX1_isSo_0 0 rfl rfl)
theorem dX1_isSo_1 : decode cX1_isSo 1 = .ok (.istore_n 1, 1) := dk_60 (dk_at dksX1_isSo_0 1 rfl rfl)
theorem dX1_isSo_2 : decode cX1_isSo 2 = .ok (.iconst 0, 1) := dk_3 (dk_at dksX1_isSo_0 2 rfl rfl)
theorem dX1_isSo_3 : decode cX1_isSo 3 = .ok (.istore_n 2, 1) := dk_61 (dk_at dksX1_isSo_0 3 rfl rfl)
theorem dX1_isSo_4 : decode cX1_isSo 4 = .ok (.iload_n 2, 1) := dk_28 (dk_at dksX1_isSo_0 4 rfl rfl)
theorem dX1_isSo_5 : decode cX1_isSo 5 = .ok (.aload_n 0, 1) := dk_42 (dk_at dksX1_isSo_0 5 rfl rfl)
theorem dX1_isSo_6 : decode cX1_isSo 6 = .ok (.getfield 56, 3) := dk_180 0 56 (dk_at dksX1_isSo_0 6 rfl rfl)
theorem dX1_isSo_9 : decode cX1_isSo 9 = .ok (.invokeinterface 99 1, 5) := by decide +kernel
theorem dX1_isSo_14 : decode cX1_isSo 14 = .ok (.if_icmp .ge 29, 3) := dk_162 0 29 (dk_at dksX1_isSo_0 14 rfl rfl)
theorem dX1_isSo_17 : decode cX1_isSo 17 = .ok (.iload_n 1, 1) := dk_27 (dk_at dksX1_isSo_0 17 rfl rfl)
theorem dX1_isSo_18 : decode cX1_isSo 18 = .ok (.aload_n 0, 1) := dk_42 (dk_at dksX1_isSo_0 18 rfl rfl)
theorem dX1_isSo_19 : decode cX1_isSo 19 = .ok (.getfield 56, 3) := dk_180 0 56 (dk_at dksX1_isSo_0 19 rfl rfl)
theorem dX1_isSo_22 : decode cX1_isSo 22 = .ok (.iload_n 2, 1) := dk_28 (dk_at dksX1_isSo_0 22 rfl rfl)
theorem dX1_isSo_23 : decode cX1_isSo 23 = .ok (.invokeinterface 167 2, 5) := by decide +kernel
theorem dX1_isSo_28 : decode cX1_isSo 28 = .ok (.checkcast 175, 3) := dk_192 0 175 (dk_at dksX1_isSo_1 5 rfl rfl)
theorem dX1_isSo_31 : decode cX1_isSo 31 = .ok (.iconst 2, 1) := dk_5 (dk_at dksX1_isSo_1 8 rfl rfl)
theorem dX1_isSo_32 : decode cX1_isSo 32 = .ok (.iaload, 1) := dk_46 (dk_at dksX1_isSo_1 9 rfl rfl)
theorem dX1_isSo_33 : decode cX1_isSo 33 = .ok (.invokestatic 270, 3) := dk_184 1 14 (dk_at dksX1_isSo_1 10 rfl rfl)
theorem dX1_isSo_36 : decode cX1_isSo 36 = .ok (.istore_n 1, 1) := dk_60 (dk_at dksX1_isSo_1 13 rfl rfl)
theorem dX1_isSo_37 : decode cX1_isSo 37 = .ok (.iinc 2 1, 3) := dk_132 2 1 (dk_at dksX1_isSo_1 14 rfl rfl)
theorem dX1_isSo_40 : decode cX1_isSo 40 = .ok (.goto (-36), 3) := dk_167 255 220 (dk_at dksX1_isSo_1 17 rfl rfl)
theorem dX1_isSo_43 : decode cX1_isSo 43 = .ok (.iconst 0, 1) := dk_3 (dk_at dksX1_isSo_1 20 rfl rfl)
theorem dX1_isSo_44 : decode cX1_isSo 44 = .ok (.istore_n 2, 1) := dk_61 (dk_at dksX1_isSo_1 21 rfl rfl)
theorem dX1_isSo_45 : decode cX1_isSo 45 = .ok (.iload_n 2, 1) := dk_28 (dk_at dksX1_isSo_1 22 rfl rfl)
theorem dX1_isSo_46 : decode cX1_isSo 46 = .ok (.iload_n 1, 1) := dk_27 (dk_at dksX1_isSo_1 23 rfl rfl)
theorem dX1_isSo_47 : decode cX1_isSo 47 = .ok (.if_icmp .gt 89, 3) := dk_163 0 89 (dk_at dksX1_isSo_2 0 rfl rfl)
theorem dX1_isSo_50 : decode cX1_isSo 50 = .ok (.iconst 0, 1) := dk_3 (dk_at dksX1_isSo_2 3 rfl rfl)
theorem dX1_isSo_51 : decode cX1_isSo 51 = .ok (.istore_n 3, 1) := dk_62 (dk_at dksX1_isSo_2 4 rfl rfl)
theorem dX1_isSo_52 : decode cX1_isSo 52 = .ok (.iload_n 3, 1) := dk_29 (dk_at dksX1_isSo_2 5 rfl rfl)
theorem dX1_isSo_53 : decode cX1_isSo 53 = .ok (.aload_n 0, 1) := dk_42 (dk_at dksX1_isSo_2 6 rfl rfl)
theorem dX1_isSo_54 : decode cX1_isSo 54 = .ok (.getfield 56, 3) := dk_180 0 56 (dk_at dksX1_isSo_2 7 rfl rfl)
theorem dX1_isSo_57 : decode cX1_isSo 57 = .ok (.invokeinterface 99 1, 5) := by decide +kernel
theorem dX1_isSo_62 : decode cX1_isSo 62 = .ok (.if_icmp .ge 60, 3) := dk_162 0 60 (dk_at dksX1_isSo_2 15 rfl rfl)
theorem dX1_isSo_65 : decode cX1_isSo 65 = .ok (.aload_n 0, 1) := dk_42 (dk_at dksX1_isSo_2 18 rfl rfl)
theorem dX1_isSo_66 : decode cX1_isSo 66 = .ok (.getfield 56, 3) := dk_180 0 56 (dk_at dksX1_isSo_2 19 rfl rfl)
theorem dX1_isSo_69 : decode cX1_isSo 69 = .ok (.iload_n 3, 1) := dk_29 (dk_at dksX1_isSo_2 22 rfl rfl)
theorem dX1_isSo_70 : decode cX1_isSo 70 = .ok (.invokeinterface 167 2, 5) := by decide +kernel
theorem dX1_isSo_75 : decode cX1_isSo 75 = .ok (.checkcast 175, 3) := dk_192 0 175 (dk_at dksX1_isSo_3 5 rfl rfl)
theorem dX1_isSo_78 : decode cX1_isSo 78 = .ok (.astore 4, 2) := dk_58 4 (dk_at dksX1_isSo_3 8 rfl rfl)
theorem dX1_isSo_80 : decode cX1_isSo 80 = .ok (.aload 4, 2) := dk_25 4 (dk_at dksX1_isSo_3 10 rfl rfl)
theorem dX1_isSo_82 : decode cX1_isSo 82 = .ok (.iconst 2, 1) := dk_5 (dk_at dksX1_isSo_3 12 rfl rfl)
theorem dX1_isSo_83 : decode cX1_isSo 83 = .ok (.iaload, 1) := dk_46 (dk_at dksX1_isSo_3 13 rfl rfl)
theorem dX1_isSo_84 : decode cX1_isSo 84 = .ok (.iload_n 2, 1) := dk_28 (dk_at dksX1_isSo_3 14 rfl rfl)
theorem dX1_isSo_85 : decode cX1_isSo 85 = .ok (.if_icmp .ne 31, 3) := dk_160 0 31 (dk_at dksX1_isSo_3 15 rfl rfl)
theorem dX1_isSo_88 : decode cX1_isSo 88 = .ok (.aload_n 0, 1) := dk_42 (dk_at dksX1_isSo_3 18 rfl rfl)
theorem dX1_isSo_89 : decode cX1_isSo 89 = .ok (.getfield 35, 3) := dk_180 0 35 (dk_at dksX1_isSo_3 19 rfl rfl)
theorem dX1_isSo_92 : decode cX1_isSo 92 = .ok (.getfield 158, 3) := dk_180 0 158 (dk_at dksX1_isSo_4 0 rfl rfl)
theorem dX1_isSo_95 : decode cX1_isSo 95 = .ok (.aload 4, 2) := dk_25 4 (dk_at dksX1_isSo_4 3 rfl rfl)
theorem dX1_isSo_97 : decode cX1_isSo 97 = .ok (.iconst 0, 1) := dk_3 (dk_at dksX1_isSo_4 5 rfl rfl)
theorem dX1_isSo_98 : decode cX1_isSo 98 = .ok (.iaload, 1) := dk_46 (dk_at dksX1_isSo_4 6 rfl rfl)
theorem dX1_isSo_99 : decode cX1_isSo 99 = .ok (.iaload, 1) := dk_46 (dk_at dksX1_isSo_4 7 rfl rfl)
theorem dX1_isSo_100 : decode cX1_isSo 100 = .ok (.aload 4, 2) := dk_25 4 (dk_at dksX1_isSo_4 8 rfl rfl)
theorem dX1_isSo_102 : decode cX1_isSo 102 = .ok (.iconst 1, 1) := dk_4 (dk_at dksX1_isSo_4 10 rfl rfl)
theorem dX1_isSo_103 : decode cX1_isSo 103 = .ok (.iaload, 1) := dk_46 (dk_at dksX1_isSo_4 11 rfl rfl)
theorem dX1_isSo_104 : decode cX1_isSo 104 = .ok (.ishr, 1) := dk_122 (dk_at dksX1_isSo_4 12 rfl rfl)
theorem dX1_isSo_105 : decode cX1_isSo 105 = .ok (.iconst 1, 1) := dk_4 (dk_at dksX1_isSo_4 13 rfl rfl)
theorem dX1_isSo_106 : decode cX1_isSo 106 = .ok (.iand, 1) := dk_126 (dk_at dksX1_isSo_4 14 rfl rfl)
theorem dX1_isSo_107 : decode cX1_isSo 107 = .ok (.aload 4, 2) := dk_25 4 (dk_at dksX1_isSo_4 15 rfl rfl)
theorem dX1_isSo_109 : decode cX1_isSo 109 = .ok (.iconst 3, 1) := dk_6 (dk_at dksX1_isSo_4 17 rfl rfl)
theorem dX1_isSo_110 : decode cX1_isSo 110 = .ok (.iaload, 1) := dk_46 (dk_at dksX1_isSo_4 18 rfl rfl)
theorem dX1_isSo_111 : decode cX1_isSo 111 = .ok (.if_icmp .eq 5, 3) := dk_159 0 5 (dk_at dksX1_isSo_4 19 rfl rfl)
theorem dX1_isSo_114 : decode cX1_isSo 114 = .ok (.iconst 0, 1) := dk_3 (dk_at dksX1_isSo_4 22 rfl rfl)
theorem dX1_isSo_115 : decode cX1_isSo 115 = .ok (.ireturn, 1) := dk_172 (dk_at dksX1_isSo_4 23 rfl rfl)
theorem dX1_isSo_116 : decode cX1_isSo 116 = .ok (.iinc 3 1, 3) := dk_132 3 1 (dk_at dksX1_isSo_5 0 rfl rfl)
theorem dX1_isSo_119 : decode cX1_isSo 119 = .ok (.goto (-67), 3) := dk_167 255 189 (dk_at dksX1_isSo_5 3 rfl rfl)
theorem dX1_isSo_122 : decode cX1_isSo 122 = .ok (.aload_n 0, 1) := dk_42 (dk_at dksX1_isSo_5 6 rfl rfl)
theorem dX1_isSo_123 : decode cX1_isSo 123 = .ok (.getfield 35, 3) := dk_180 0 35 (dk_at dksX1_isSo_5 7 rfl rfl)
theorem dX1_isSo_126 : decode cX1_isSo 126 = .ok (.invokevirtual 257, 3) := dk_182 1 1 (dk_at dksX1_isSo_5 10 rfl rfl)
theorem dX1_isSo_129 : decode cX1_isSo 129 = .ok (.pop, 1) := dk_87 (dk_at dksX1_isSo_5 13 rfl rfl)
theorem dX1_isSo_130 : decode cX1_isSo 130 = .ok (.iinc 2 1, 3) := dk_132 2 1 (dk_at dksX1_isSo_5 14 rfl rfl)
theorem dX1_isSo_133 : decode cX1_isSo 133 = .ok (.goto (-88), 3) := dk_167 255 168 (dk_at dksX1_isSo_5 17 rfl rfl)
theorem dX1_isSo_136 : decode cX1_isSo 136 = .ok (.iconst 1, 1) := dk_4 (dk_at dksX1_isSo_5 20 rfl rfl)
theorem dX1_isSo_137 : decode cX1_isSo 137 = .ok (.ireturn, 1) := dk_172 (dk_at dksX1_isSo_5 21 rfl rfl)
abbrev cX1_others : ByteArray := prog_1_method_53_code
def yX1_others : MethodName := ⟨RX1, "others", "()Ljava/util/List;"⟩
def dkwX1_others_4 : List UInt8 := [184, 1, 36, 185, 0, 213, 2, 0, 87, 132, 3, 1, 167, 255, 177, 132, 2, 1, 167, 255, 158, 43, 176]
abbrev dktX1_others_4 : List UInt8 := dkwX1_others_4 ++ []
def dkwX1_others_3 : List UInt8 := [182, 0, 247, 28, 29, 182, 0, 233, 42, 182, 1, 33, 153, 0, 19, 43, 16, 10, 28, 104, 29, 96]
abbrev dktX1_others_3 : List UInt8 := dkwX1_others_3 ++ dktX1_others_4
def dkwX1_others_2 : List UInt8 := [180, 0, 31, 29, 182, 0, 146, 28, 160, 0, 6, 167, 0, 42, 42, 180, 0, 35, 42, 180, 0, 31]
abbrev dktX1_others_2 : List UInt8 := dkwX1_others_2 ++ dktX1_others_3
def dkwX1_others_1 : List UInt8 := [42, 180, 0, 22, 180, 0, 89, 162, 0, 74, 42, 180, 0, 31, 29, 182, 0, 236, 154, 0, 57, 42]
abbrev dktX1_others_1 : List UInt8 := dkwX1_others_1 ++ dktX1_others_2
def dkwX1_others_0 : List UInt8 := [187, 0, 49, 89, 183, 0, 51, 76, 3, 61, 28, 42, 180, 0, 22, 182, 0, 92, 162, 0, 93, 3, 62, 29]
abbrev dktX1_others_0 : List UInt8 := dkwX1_others_0 ++ dktX1_others_1
theorem dksX1_others_0 : cX1_others.data.toList.drop 0 = dktX1_others_0 := by decide +kernel
theorem dksX1_others_1 : cX1_others.data.toList.drop 24 = dktX1_others_1 := dk_seg dksX1_others_0 24 rfl rfl
theorem dksX1_others_2 : cX1_others.data.toList.drop 46 = dktX1_others_2 := dk_seg dksX1_others_1 22 rfl rfl
theorem dksX1_others_3 : cX1_others.data.toList.drop 68 = dktX1_others_3 := dk_seg dksX1_others_2 22 rfl rfl
theorem dksX1_others_4 : cX1_others.data.toList.drop 90 = dktX1_others_4 := dk_seg dksX1_others_3 22 rfl rfl
theorem dX1_others_0 : decode cX1_others 0 = .ok (.new 49, 3) := dk_187 0 49 (dk_at dksX1_others_0 0 rfl rfl)
theorem dX1_others_3 : decode cX1_others 3 = .ok (.dup, 1) := dk_89 (dk_at dksX1_others_0 3 rfl rfl)
theorem dX1_others_4 : decode cX1_others 4 = .ok (.invokespecial 51, 3) := dk_183 0 51 (dk_at dksX1_others_0 4 rfl rfl)
theorem dX1_others_7 : decode cX1_others 7 = .ok (.astore_n 1, 1) := dk_76 (dk_at dksX1_others_0 7 rfl rfl)
theorem dX1_others_8 : decode cX1_others 8 = .ok (.iconst 0, 1) := dk_3 (dk_at dksX1_others_0 8 rfl rfl)
theorem dX1_others_9 : decode cX1_others 9 = .ok (.istore_n 2, 1) := dk_61 (dk_at dksX1_others_0 9 rfl rfl)
theorem dX1_others_10 : decode cX1_others 10 = .ok (.iload_n 2, 1) := dk_28 (dk_at dksX1_others_0 10 rfl rfl)
theorem dX1_others_11 : decode cX1_others 11 = .ok (.aload_n 0, 1) := dk_42 (dk_at dksX1_others_0 11 rfl rfl)
theorem dX1_others_12 : decode cX1_others 12 = .ok (.getfield 22, 3) := dk_180 0 22 (dk_at dksX1_others_0 12 rfl rfl)
theorem dX1_others_15 : decode cX1_others 15 = .ok (.invokevirtual 92, 3) := dk_182 0 92 (dk_at dksX1_others_0 15 rfl rfl)
theorem dX1_others_18 : decode cX1_others 18 = .ok (.if_icmp .ge 93, 3) := dk_162 0 93 (dk_at dksX1_others_0 18 rfl rfl)
theorem dX1_others_21 : decode cX1_others 21 = .ok (.iconst 0, 1) := dk_3 (dk_at dksX1_others_0 21 rfl rfl)
theorem dX1_others_22 : decode cX1_others 22 = .ok (.istore_n 3, 1) := dk_62 (dk_at dksX1_others_0 22 rfl rfl)
theorem dX1_others_23 : decode cX1_others 23 = .ok (.iload_n 3, 1) := dk_29 (dk_at dksX1_others_0 23 rfl rfl)
theorem dX1_others_24 : decode cX1_others 24 = .ok (.aload_n 0, 1) := dk_42 (dk_at dksX1_others_1 0 rfl rfl)
theorem dX1_others_25 : decode cX1_others 25 = .ok (.getfield 22, 3) := dk_180 0 22 (dk_at dksX1_others_1 1 rfl rfl)
theorem dX1_others_28 : decode cX1_others 28 = .ok (.getfield 89, 3) := dk_180 0 89 (dk_at dksX1_others_1 4 rfl rfl)
theorem dX1_others_31 : decode cX1_others 31 = .ok (.if_icmp .ge 74, 3) := dk_162 0 74 (dk_at dksX1_others_1 7 rfl rfl)
theorem dX1_others_34 : decode cX1_others 34 = .ok (.aload_n 0, 1) := dk_42 (dk_at dksX1_others_1 10 rfl rfl)
theorem dX1_others_35 : decode cX1_others 35 = .ok (.getfield 31, 3) := dk_180 0 31 (dk_at dksX1_others_1 11 rfl rfl)
theorem dX1_others_38 : decode cX1_others 38 = .ok (.iload_n 3, 1) := dk_29 (dk_at dksX1_others_1 14 rfl rfl)
theorem dX1_others_39 : decode cX1_others 39 = .ok (.invokevirtual 236, 3) := dk_182 0 236 (dk_at dksX1_others_1 15 rfl rfl)
theorem dX1_others_42 : decode cX1_others 42 = .ok (.ifCond .ne 57, 3) := dk_154 0 57 (dk_at dksX1_others_1 18 rfl rfl)
theorem dX1_others_45 : decode cX1_others 45 = .ok (.aload_n 0, 1) := dk_42 (dk_at dksX1_others_1 21 rfl rfl)
theorem dX1_others_46 : decode cX1_others 46 = .ok (.getfield 31, 3) := dk_180 0 31 (dk_at dksX1_others_2 0 rfl rfl)
theorem dX1_others_49 : decode cX1_others 49 = .ok (.iload_n 3, 1) := dk_29 (dk_at dksX1_others_2 3 rfl rfl)
theorem dX1_others_50 : decode cX1_others 50 = .ok (.invokevirtual 146, 3) := dk_182 0 146 (dk_at dksX1_others_2 4 rfl rfl)
theorem dX1_others_53 : decode cX1_others 53 = .ok (.iload_n 2, 1) := dk_28 (dk_at dksX1_others_2 7 rfl rfl)
theorem dX1_others_54 : decode cX1_others 54 = .ok (.if_icmp .ne 6, 3) := dk_160 0 6 (dk_at dksX1_others_2 8 rfl rfl)
theorem dX1_others_57 : decode cX1_others 57 = .ok (.goto 42, 3) := dk_167 0 42 (dk_at dksX1_others_2 11 rfl rfl)
theorem dX1_others_60 : decode cX1_others 60 = .ok (.aload_n 0, 1) := dk_42 (dk_at dksX1_others_2 14 rfl rfl)
theorem dX1_others_61 : decode cX1_others 61 = .ok (.getfield 35, 3) := dk_180 0 35 (dk_at dksX1_others_2 15 rfl rfl)
theorem dX1_others_64 : decode cX1_others 64 = .ok (.aload_n 0, 1) := dk_42 (dk_at dksX1_others_2 18 rfl rfl)
theorem dX1_others_65 : decode cX1_others 65 = .ok (.getfield 31, 3) := dk_180 0 31 (dk_at dksX1_others_2 19 rfl rfl)
theorem dX1_others_68 : decode cX1_others 68 = .ok (.invokevirtual 247, 3) := dk_182 0 247 (dk_at dksX1_others_3 0 rfl rfl)
theorem dX1_others_71 : decode cX1_others 71 = .ok (.iload_n 2, 1) := dk_28 (dk_at dksX1_others_3 3 rfl rfl)
theorem dX1_others_72 : decode cX1_others 72 = .ok (.iload_n 3, 1) := dk_29 (dk_at dksX1_others_3 4 rfl rfl)
theorem dX1_others_73 : decode cX1_others 73 = .ok (.invokevirtual 233, 3) := dk_182 0 233 (dk_at dksX1_others_3 5 rfl rfl)
theorem dX1_others_76 : decode cX1_others 76 = .ok (.aload_n 0, 1) := dk_42 (dk_at dksX1_others_3 8 rfl rfl)
theorem dX1_others_77 : decode cX1_others 77 = .ok (.invokevirtual 289, 3) := dk_182 1 33 (dk_at dksX1_others_3 9 rfl rfl)
theorem dX1_others_80 : decode cX1_others 80 = .ok (.ifCond .eq 19, 3) := dk_153 0 19 (dk_at dksX1_others_3 12 rfl rfl)
theorem dX1_others_83 : decode cX1_others 83 = .ok (.aload_n 1, 1) := dk_43 (dk_at dksX1_others_3 15 rfl rfl)
theorem dX1_others_84 : decode cX1_others 84 = .ok (.bipush 10, 2) := dk_16 10 (dk_at dksX1_others_3 16 rfl rfl)
theorem dX1_others_86 : decode cX1_others 86 = .ok (.iload_n 2, 1) := dk_28 (dk_at dksX1_others_3 18 rfl rfl)
theorem dX1_others_87 : decode cX1_others 87 = .ok (.imul, 1) := dk_104 (dk_at dksX1_others_3 19 rfl rfl)
theorem dX1_others_88 : decode cX1_others 88 = .ok (.iload_n 3, 1) := dk_29 (dk_at dksX1_others_3 20 rfl rfl)
theorem dX1_others_89 : decode cX1_others 89 = .ok (.iadd, 1) := dk_96 (dk_at dksX1_others_3 21 rfl rfl)
theorem dX1_others_90 : decode cX1_others 90 = .ok (.invokestatic 292, 3) := dk_184 1 36 (dk_at dksX1_others_4 0 rfl rfl)
theorem dX1_others_93 : decode cX1_others 93 = .ok (.invokeinterface 213 2, 5) := by decide +kernel
theorem dX1_others_98 : decode cX1_others 98 = .ok (.pop, 1) := dk_87 (dk_at dksX1_others_4 8 rfl rfl)
theorem dX1_others_99 : decode cX1_others 99 = .ok (.iinc 3 1, 3) := dk_132 3 1 (dk_at dksX1_others_4 9 rfl rfl)
theorem dX1_others_102 : decode cX1_others 102 = .ok (.goto (-79), 3) := dk_167 255 177 (dk_at dksX1_others_4 12 rfl rfl)
theorem dX1_others_105 : decode cX1_others 105 = .ok (.iinc 2 1, 3) := dk_132 2 1 (dk_at dksX1_others_4 15 rfl rfl)
theorem dX1_others_108 : decode cX1_others 108 = .ok (.goto (-98), 3) := dk_167 255 158 (dk_at dksX1_others_4 18 rfl rfl)
theorem dX1_others_111 : decode cX1_others 111 = .ok (.aload_n 1, 1) := dk_43 (dk_at dksX1_others_4 21 rfl rfl)
theorem dX1_others_112 : decode cX1_others 112 = .ok (.areturn, 1) := dk_176 (dk_at dksX1_others_4 22 rfl rfl)
abbrev cX1_ask : ByteArray := prog_1_method_55_code
def yX1_ask : MethodName := ⟨RX1, "ask", "(I)I"⟩
def dkwX1_ask_11 : List UInt8 := [167, 0, 5, 21, 5, 172]
abbrev dktX1_ask_11 : List UInt8 := dkwX1_ask_11 ++ []
def dkwX1_ask_10 : List UInt8 := [167, 0, 11, 21, 6, 54, 4, 21, 7, 54, 5, 132, 6, 1, 167, 255, 148, 27, 154, 0, 8, 21, 4]
abbrev dktX1_ask_10 : List UInt8 := dkwX1_ask_10 ++ dktX1_ask_11
def dkwX1_ask_9 : List UInt8 := [167, 255, 217, 21, 9, 153, 0, 6, 132, 7, 1, 132, 8, 1, 167, 255, 190, 21, 7, 21, 5, 163, 0, 6]
abbrev dktX1_ask_9 : List UInt8 := dkwX1_ask_9 ++ dktX1_ask_10
def dkwX1_ask_8 : List UInt8 := [50, 21, 6, 46, 45, 21, 8, 50, 21, 6, 46, 159, 0, 7, 4, 167, 0, 4, 3, 54, 9, 132, 10, 1]
abbrev dktX1_ask_8 : List UInt8 := dkwX1_ask_8 ++ dktX1_ask_9
def dkwX1_ask_7 : List UInt8 := [162, 0, 65, 4, 54, 9, 3, 54, 10, 21, 10, 21, 8, 162, 0, 38, 21, 9, 153, 0, 33, 45, 21, 10]
abbrev dktX1_ask_7 : List UInt8 := dkwX1_ask_7 ++ dktX1_ask_8
def dkwX1_ask_6 : List UInt8 := [21, 6, 42, 180, 0, 22, 182, 0, 92, 162, 0, 102, 3, 54, 7, 3, 54, 8, 21, 8, 45, 190]
abbrev dktX1_ask_6 : List UInt8 := dkwX1_ask_6 ++ dktX1_ask_7
def dkwX1_ask_5 : List UInt8 := [46, 79, 132, 5, 1, 167, 255, 229, 132, 4, 1, 167, 255, 155, 2, 54, 4, 3, 54, 5, 3, 54, 6]
abbrev dktX1_ask_5 : List UInt8 := dkwX1_ask_5 ++ dktX1_ask_6
def dkwX1_ask_4 : List UInt8 := [54, 5, 21, 5, 16, 6, 162, 0, 26, 45, 21, 4, 50, 21, 5, 42, 180, 0, 35, 180, 0, 158, 21, 5]
abbrev dktX1_ask_4 : List UInt8 := dkwX1_ask_4 ++ dktX1_ask_5
def dkwX1_ask_3 : List UInt8 := [192, 1, 8, 182, 1, 44, 16, 10, 112, 182, 0, 233, 42, 180, 0, 35, 16, 6, 182, 0, 226, 87, 3]
abbrev dktX1_ask_3 : List UInt8 := dkwX1_ask_3 ++ dktX1_ask_4
def dkwX1_ask_2 : List UInt8 := [185, 0, 167, 2, 0, 192, 1, 8, 182, 1, 44, 16, 10, 108, 44, 21, 4, 185, 0, 167, 2, 0]
abbrev dktX1_ask_2 : List UInt8 := dkwX1_ask_2 ++ dktX1_ask_3
def dkwX1_ask_1 : List UInt8 := [54, 4, 21, 4, 45, 190, 162, 0, 100, 42, 180, 0, 35, 42, 180, 0, 31, 182, 0, 247, 44, 21, 4]
abbrev dktX1_ask_1 : List UInt8 := dkwX1_ask_1 ++ dktX1_ask_2
def dkwX1_ask_0 : List UInt8 := [27, 4, 184, 0, 133, 42, 182, 1, 40, 77, 44, 185, 0, 99, 1, 0, 16, 6, 197, 1, 12, 2, 78, 3]
abbrev dktX1_ask_0 : List UInt8 := dkwX1_ask_0 ++ dktX1_ask_1
theorem dksX1_ask_0 : cX1_ask.data.toList.drop 0 = dktX1_ask_0 := by decide +kernel
theorem dksX1_ask_1 : cX1_ask.data.toList.drop 24 = dktX1_ask_1 := dk_seg dksX1_ask_0 24 rfl rfl
theorem dksX1_ask_2 : cX1_ask.data.toList.drop 47 = dktX1_ask_2 := dk_seg dksX1_ask_1 23 rfl rfl
theorem dksX1_ask_3 : cX1_ask.data.toList.drop 69 = dktX1_ask_3 := dk_seg dksX1_ask_2 22 rfl rfl
theorem dksX1_ask_4 : cX1_ask.data.toList.drop 92 = dktX1_ask_4 := dk_seg dksX1_ask_3 23 rfl rfl
theorem dksX1_ask_5 : cX1_ask.data.toList.drop 116 = dktX1_ask_5 := dk_seg dksX1_ask_4 24 rfl rfl
theorem dksX1_ask_6 : cX1_ask.data.toList.drop 139 = dktX1_ask_6 := dk_seg dksX1_ask_5 23 rfl rfl
theorem dksX1_ask_7 : cX1_ask.data.toList.drop 161 = dktX1_ask_7 := dk_seg dksX1_ask_6 22 rfl rfl
theorem dksX1_ask_8 : cX1_ask.data.toList.drop 185 = dktX1_ask_8 := dk_seg dksX1_ask_7 24 rfl rfl
theorem dksX1_ask_9 : cX1_ask.data.toList.drop 209 = dktX1_ask_9 := dk_seg dksX1_ask_8 24 rfl rfl
theorem dksX1_ask_10 : cX1_ask.data.toList.drop 233 = dktX1_ask_10 := dk_seg dksX1_ask_9 24 rfl rfl
theorem dksX1_ask_11 : cX1_ask.data.toList.drop 256 = dktX1_ask_11 := dk_seg dksX1_ask_10 23 rfl rfl
theorem dX1_ask_0 : decode cX1_ask 0 = .ok (.iload_n 1, 1) := dk_27 (dk_at dksX1_ask_0 0 rfl rfl)
theorem dX1_ask_1 : decode cX1_ask 1 = .ok (.iconst 1, 1) := dk_4 (dk_at dksX1_ask_0 1 rfl rfl)
theorem dX1_ask_2 : decode cX1_ask 2 = .ok (.invokestatic 133, 3) := dk_184 0 133 (dk_at dksX1_ask_0 2 rfl rfl)
theorem dX1_ask_5 : decode cX1_ask 5 = .ok (.aload_n 0, 1) := dk_42 (dk_at dksX1_ask_0 5 rfl rfl)
theorem dX1_ask_6 : decode cX1_ask 6 = .ok (.invokevirtual 296, 3) := dk_182 1 40 (dk_at dksX1_ask_0 6 rfl rfl)
theorem dX1_ask_9 : decode cX1_ask 9 = .ok (.astore_n 2, 1) := dk_77 (dk_at dksX1_ask_0 9 rfl rfl)
theorem dX1_ask_10 : decode cX1_ask 10 = .ok (.aload_n 2, 1) := dk_44 (dk_at dksX1_ask_0 10 rfl rfl)
theorem dX1_ask_11 : decode cX1_ask 11 = .ok (.invokeinterface 99 1, 5) := by decide +kernel
theorem dX1_ask_16 : decode cX1_ask 16 = .ok (.bipush 6, 2) := dk_16 6 (dk_at dksX1_ask_0 16 rfl rfl)
theorem dX1_ask_18 : decode cX1_ask 18 = .ok (.multianewarray 268 2, 4) := by decide +kernel
theorem dX1_ask_22 : decode cX1_ask 22 = .ok (.astore_n 3, 1) := dk_78 (dk_at dksX1_ask_0 22 rfl rfl)
theorem dX1_ask_23 : decode cX1_ask 23 = .ok (.iconst 0, 1) := dk_3 (dk_at dksX1_ask_0 23 rfl rfl)
theorem dX1_ask_24 : decode cX1_ask 24 = .ok (.istore 4, 2) := dk_54 4 (dk_at dksX1_ask_1 0 rfl rfl)
theorem dX1_ask_26 : decode cX1_ask 26 = .ok (.iload 4, 2) := dk_21 4 (dk_at dksX1_ask_1 2 rfl rfl)
theorem dX1_ask_28 : decode cX1_ask 28 = .ok (.aload_n 3, 1) := dk_45 (dk_at dksX1_ask_1 4 rfl rfl)
theorem dX1_ask_29 : decode cX1_ask 29 = .ok (.arraylength, 1) := dk_190 (dk_at dksX1_ask_1 5 rfl rfl)
theorem dX1_ask_30 : decode cX1_ask 30 = .ok (.if_icmp .ge 100, 3) := dk_162 0 100 (dk_at dksX1_ask_1 6 rfl rfl)
theorem dX1_ask_33 : decode cX1_ask 33 = .ok (.aload_n 0, 1) := dk_42 (dk_at dksX1_ask_1 9 rfl rfl)
theorem dX1_ask_34 : decode cX1_ask 34 = .ok (.getfield 35, 3) := dk_180 0 35 (dk_at dksX1_ask_1 10 rfl rfl)
theorem dX1_ask_37 : decode cX1_ask 37 = .ok (.aload_n 0, 1) := dk_42 (dk_at dksX1_ask_1 13 rfl rfl)
theorem dX1_ask_38 : decode cX1_ask 38 = .ok (.getfield 31, 3) := dk_180 0 31 (dk_at dksX1_ask_1 14 rfl rfl)
theorem dX1_ask_41 : decode cX1_ask 41 = .ok (.invokevirtual 247, 3) := dk_182 0 247 (dk_at dksX1_ask_1 17 rfl rfl)
theorem dX1_ask_44 : decode cX1_ask 44 = .ok (.aload_n 2, 1) := dk_44 (dk_at dksX1_ask_1 20 rfl rfl)
theorem dX1_ask_45 : decode cX1_ask 45 = .ok (.iload 4, 2) := dk_21 4 (dk_at dksX1_ask_1 21 rfl rfl)
theorem dX1_ask_47 : decode cX1_ask 47 = .ok (.invokeinterface 167 2, 5) := by decide +kernel
theorem dX1_ask_52 : decode cX1_ask 52 = .ok (.checkcast 264, 3) := dk_192 1 8 (dk_at dksX1_ask_2 5 rfl rfl)
theorem dX1_ask_55 : decode cX1_ask 55 = .ok (.invokevirtual 300, 3) := dk_182 1 44 (dk_at dksX1_ask_2 8 rfl rfl)
theorem dX1_ask_58 : decode cX1_ask 58 = .ok (.bipush 10, 2) := dk_16 10 (dk_at dksX1_ask_2 11 rfl rfl)
theorem dX1_ask_60 : decode cX1_ask 60 = .ok (.idiv, 1) := dk_108 (dk_at dksX1_ask_2 13 rfl rfl)
theorem dX1_ask_61 : decode cX1_ask 61 = .ok (.aload_n 2, 1) := dk_44 (dk_at dksX1_ask_2 14 rfl rfl)
theorem dX1_ask_62 : decode cX1_ask 62 = .ok (.iload 4, 2) := dk_21 4 (dk_at dksX1_ask_2 15 rfl rfl)
theorem dX1_ask_64 : decode cX1_ask 64 = .ok (.invokeinterface 167 2, 5) := by decide +kernel
theorem dX1_ask_69 : decode cX1_ask 69 = .ok (.checkcast 264, 3) := dk_192 1 8 (dk_at dksX1_ask_3 0 rfl rfl)
theorem dX1_ask_72 : decode cX1_ask 72 = .ok (.invokevirtual 300, 3) := dk_182 1 44 (dk_at dksX1_ask_3 3 rfl rfl)
theorem dX1_ask_75 : decode cX1_ask 75 = .ok (.bipush 10, 2) := dk_16 10 (dk_at dksX1_ask_3 6 rfl rfl)
theorem dX1_ask_77 : decode cX1_ask 77 = .ok (.irem, 1) := dk_112 (dk_at dksX1_ask_3 8 rfl rfl)
theorem dX1_ask_78 : decode cX1_ask 78 = .ok (.invokevirtual 233, 3) := dk_182 0 233 (dk_at dksX1_ask_3 9 rfl rfl)
theorem dX1_ask_81 : decode cX1_ask 81 = .ok (.aload_n 0, 1) := dk_42 (dk_at dksX1_ask_3 12 rfl rfl)
theorem dX1_ask_82 : decode cX1_ask 82 = .ok (.getfield 35, 3) := dk_180 0 35 (dk_at dksX1_ask_3 13 rfl rfl)
theorem dX1_ask_85 : decode cX1_ask 85 = .ok (.bipush 6, 2) := dk_16 6 (dk_at dksX1_ask_3 16 rfl rfl)
theorem dX1_ask_87 : decode cX1_ask 87 = .ok (.invokevirtual 226, 3) := dk_182 0 226 (dk_at dksX1_ask_3 18 rfl rfl)
theorem dX1_ask_90 : decode cX1_ask 90 = .ok (.pop, 1) := dk_87 (dk_at dksX1_ask_3 21 rfl rfl)
theorem dX1_ask_91 : decode cX1_ask 91 = .ok (.iconst 0, 1) := dk_3 (dk_at dksX1_ask_3 22 rfl rfl)
theorem dX1_ask_92 : decode cX1_ask 92 = .ok (.istore 5, 2) := dk_54 5 (dk_at dksX1_ask_4 0 rfl rfl)
theorem dX1_ask_94 : decode cX1_ask 94 = .ok (.iload 5, 2) := dk_21 5 (dk_at dksX1_ask_4 2 rfl rfl)
theorem dX1_ask_96 : decode cX1_ask 96 = .ok (.bipush 6, 2) := dk_16 6 (dk_at dksX1_ask_4 4 rfl rfl)
theorem dX1_ask_98 : decode cX1_ask 98 = .ok (.if_icmp .ge 26, 3) := dk_162 0 26 (dk_at dksX1_ask_4 6 rfl rfl)
theorem dX1_ask_101 : decode cX1_ask 101 = .ok (.aload_n 3, 1) := dk_45 (dk_at dksX1_ask_4 9 rfl rfl)
theorem dX1_ask_102 : decode cX1_ask 102 = .ok (.iload 4, 2) := dk_21 4 (dk_at dksX1_ask_4 10 rfl rfl)
theorem dX1_ask_104 : decode cX1_ask 104 = .ok (.aaload, 1) := dk_50 (dk_at dksX1_ask_4 12 rfl rfl)
theorem dX1_ask_105 : decode cX1_ask 105 = .ok (.iload 5, 2) := dk_21 5 (dk_at dksX1_ask_4 13 rfl rfl)
theorem dX1_ask_107 : decode cX1_ask 107 = .ok (.aload_n 0, 1) := dk_42 (dk_at dksX1_ask_4 15 rfl rfl)
theorem dX1_ask_108 : decode cX1_ask 108 = .ok (.getfield 35, 3) := dk_180 0 35 (dk_at dksX1_ask_4 16 rfl rfl)
theorem dX1_ask_111 : decode cX1_ask 111 = .ok (.getfield 158, 3) := dk_180 0 158 (dk_at dksX1_ask_4 19 rfl rfl)
theorem dX1_ask_114 : decode cX1_ask 114 = .ok (.iload 5, 2) := dk_21 5 (dk_at dksX1_ask_4 22 rfl rfl)
theorem dX1_ask_116 : decode cX1_ask 116 = .ok (.iaload, 1) := dk_46 (dk_at dksX1_ask_5 0 rfl rfl)
theorem dX1_ask_117 : decode cX1_ask 117 = .ok (.iastore, 1) := dk_79 (dk_at dksX1_ask_5 1 rfl rfl)
theorem dX1_ask_118 : decode cX1_ask 118 = .ok (.iinc 5 1, 3) := dk_132 5 1 (dk_at dksX1_ask_5 2 rfl rfl)
theorem dX1_ask_121 : decode cX1_ask 121 = .ok (.goto (-27), 3) := dk_167 255 229 (dk_at dksX1_ask_5 5 rfl rfl)
theorem dX1_ask_124 : decode cX1_ask 124 = .ok (.iinc 4 1, 3) := dk_132 4 1 (dk_at dksX1_ask_5 8 rfl rfl)
theorem dX1_ask_127 : decode cX1_ask 127 = .ok (.goto (-101), 3) := dk_167 255 155 (dk_at dksX1_ask_5 11 rfl rfl)
theorem dX1_ask_130 : decode cX1_ask 130 = .ok (.iconst (-1), 1) := dk_2 (dk_at dksX1_ask_5 14 rfl rfl)
theorem dX1_ask_131 : decode cX1_ask 131 = .ok (.istore 4, 2) := dk_54 4 (dk_at dksX1_ask_5 15 rfl rfl)
theorem dX1_ask_133 : decode cX1_ask 133 = .ok (.iconst 0, 1) := dk_3 (dk_at dksX1_ask_5 17 rfl rfl)
theorem dX1_ask_134 : decode cX1_ask 134 = .ok (.istore 5, 2) := dk_54 5 (dk_at dksX1_ask_5 18 rfl rfl)
theorem dX1_ask_136 : decode cX1_ask 136 = .ok (.iconst 0, 1) := dk_3 (dk_at dksX1_ask_5 20 rfl rfl)
theorem dX1_ask_137 : decode cX1_ask 137 = .ok (.istore 6, 2) := dk_54 6 (dk_at dksX1_ask_5 21 rfl rfl)
theorem dX1_ask_139 : decode cX1_ask 139 = .ok (.iload 6, 2) := dk_21 6 (dk_at dksX1_ask_6 0 rfl rfl)
theorem dX1_ask_141 : decode cX1_ask 141 = .ok (.aload_n 0, 1) := dk_42 (dk_at dksX1_ask_6 2 rfl rfl)
theorem dX1_ask_142 : decode cX1_ask 142 = .ok (.getfield 22, 3) := dk_180 0 22 (dk_at dksX1_ask_6 3 rfl rfl)
theorem dX1_ask_145 : decode cX1_ask 145 = .ok (.invokevirtual 92, 3) := dk_182 0 92 (dk_at dksX1_ask_6 6 rfl rfl)
theorem dX1_ask_148 : decode cX1_ask 148 = .ok (.if_icmp .ge 102, 3) := dk_162 0 102 (dk_at dksX1_ask_6 9 rfl rfl)
theorem dX1_ask_151 : decode cX1_ask 151 = .ok (.iconst 0, 1) := dk_3 (dk_at dksX1_ask_6 12 rfl rfl)
theorem dX1_ask_152 : decode cX1_ask 152 = .ok (.istore 7, 2) := dk_54 7 (dk_at dksX1_ask_6 13 rfl rfl)
theorem dX1_ask_154 : decode cX1_ask 154 = .ok (.iconst 0, 1) := dk_3 (dk_at dksX1_ask_6 15 rfl rfl)
theorem dX1_ask_155 : decode cX1_ask 155 = .ok (.istore 8, 2) := dk_54 8 (dk_at dksX1_ask_6 16 rfl rfl)
theorem dX1_ask_157 : decode cX1_ask 157 = .ok (.iload 8, 2) := dk_21 8 (dk_at dksX1_ask_6 18 rfl rfl)
theorem dX1_ask_159 : decode cX1_ask 159 = .ok (.aload_n 3, 1) := dk_45 (dk_at dksX1_ask_6 20 rfl rfl)
theorem dX1_ask_160 : decode cX1_ask 160 = .ok (.arraylength, 1) := dk_190 (dk_at dksX1_ask_6 21 rfl rfl)
theorem dX1_ask_161 : decode cX1_ask 161 = .ok (.if_icmp .ge 65, 3) := dk_162 0 65 (dk_at dksX1_ask_7 0 rfl rfl)
theorem dX1_ask_164 : decode cX1_ask 164 = .ok (.iconst 1, 1) := dk_4 (dk_at dksX1_ask_7 3 rfl rfl)
theorem dX1_ask_165 : decode cX1_ask 165 = .ok (.istore 9, 2) := dk_54 9 (dk_at dksX1_ask_7 4 rfl rfl)
theorem dX1_ask_167 : decode cX1_ask 167 = .ok (.iconst 0, 1) := dk_3 (dk_at dksX1_ask_7 6 rfl rfl)
theorem dX1_ask_168 : decode cX1_ask 168 = .ok (.istore 10, 2) := dk_54 10 (dk_at dksX1_ask_7 7 rfl rfl)
theorem dX1_ask_170 : decode cX1_ask 170 = .ok (.iload 10, 2) := dk_21 10 (dk_at dksX1_ask_7 9 rfl rfl)
theorem dX1_ask_172 : decode cX1_ask 172 = .ok (.iload 8, 2) := dk_21 8 (dk_at dksX1_ask_7 11 rfl rfl)
theorem dX1_ask_174 : decode cX1_ask 174 = .ok (.if_icmp .ge 38, 3) := dk_162 0 38 (dk_at dksX1_ask_7 13 rfl rfl)
theorem dX1_ask_177 : decode cX1_ask 177 = .ok (.iload 9, 2) := dk_21 9 (dk_at dksX1_ask_7 16 rfl rfl)
theorem dX1_ask_179 : decode cX1_ask 179 = .ok (.ifCond .eq 33, 3) := dk_153 0 33 (dk_at dksX1_ask_7 18 rfl rfl)
theorem dX1_ask_182 : decode cX1_ask 182 = .ok (.aload_n 3, 1) := dk_45 (dk_at dksX1_ask_7 21 rfl rfl)
theorem dX1_ask_183 : decode cX1_ask 183 = .ok (.iload 10, 2) := dk_21 10 (dk_at dksX1_ask_7 22 rfl rfl)
theorem dX1_ask_185 : decode cX1_ask 185 = .ok (.aaload, 1) := dk_50 (dk_at dksX1_ask_8 0 rfl rfl)
theorem dX1_ask_186 : decode cX1_ask 186 = .ok (.iload 6, 2) := dk_21 6 (dk_at dksX1_ask_8 1 rfl rfl)
theorem dX1_ask_188 : decode cX1_ask 188 = .ok (.iaload, 1) := dk_46 (dk_at dksX1_ask_8 3 rfl rfl)
theorem dX1_ask_189 : decode cX1_ask 189 = .ok (.aload_n 3, 1) := dk_45 (dk_at dksX1_ask_8 4 rfl rfl)
theorem dX1_ask_190 : decode cX1_ask 190 = .ok (.iload 8, 2) := dk_21 8 (dk_at dksX1_ask_8 5 rfl rfl)
theorem dX1_ask_192 : decode cX1_ask 192 = .ok (.aaload, 1) := dk_50 (dk_at dksX1_ask_8 7 rfl rfl)
theorem dX1_ask_193 : decode cX1_ask 193 = .ok (.iload 6, 2) := dk_21 6 (dk_at dksX1_ask_8 8 rfl rfl)
theorem dX1_ask_195 : decode cX1_ask 195 = .ok (.iaload, 1) := dk_46 (dk_at dksX1_ask_8 10 rfl rfl)
theorem dX1_ask_196 : decode cX1_ask 196 = .ok (.if_icmp .eq 7, 3) := dk_159 0 7 (dk_at dksX1_ask_8 11 rfl rfl)
theorem dX1_ask_199 : decode cX1_ask 199 = .ok (.iconst 1, 1) := dk_4 (dk_at dksX1_ask_8 14 rfl rfl)
theorem dX1_ask_200 : decode cX1_ask 200 = .ok (.goto 4, 3) := dk_167 0 4 (dk_at dksX1_ask_8 15 rfl rfl)
theorem dX1_ask_203 : decode cX1_ask 203 = .ok (.iconst 0, 1) := dk_3 (dk_at dksX1_ask_8 18 rfl rfl)
theorem dX1_ask_204 : decode cX1_ask 204 = .ok (.istore 9, 2) := dk_54 9 (dk_at dksX1_ask_8 19 rfl rfl)
theorem dX1_ask_206 : decode cX1_ask 206 = .ok (.iinc 10 1, 3) := dk_132 10 1 (dk_at dksX1_ask_8 21 rfl rfl)
theorem dX1_ask_209 : decode cX1_ask 209 = .ok (.goto (-39), 3) := dk_167 255 217 (dk_at dksX1_ask_9 0 rfl rfl)
theorem dX1_ask_212 : decode cX1_ask 212 = .ok (.iload 9, 2) := dk_21 9 (dk_at dksX1_ask_9 3 rfl rfl)
theorem dX1_ask_214 : decode cX1_ask 214 = .ok (.ifCond .eq 6, 3) := dk_153 0 6 (dk_at dksX1_ask_9 5 rfl rfl)
theorem dX1_ask_217 : decode cX1_ask 217 = .ok (.iinc 7 1, 3) := dk_132 7 1 (dk_at dksX1_ask_9 8 rfl rfl)
theorem dX1_ask_220 : decode cX1_ask 220 = .ok (.iinc 8 1, 3) := dk_132 8 1 (dk_at dksX1_ask_9 11 rfl rfl)
theorem dX1_ask_223 : decode cX1_ask 223 = .ok (.goto (-66), 3) := dk_167 255 190 (dk_at dksX1_ask_9 14 rfl rfl)
theorem dX1_ask_226 : decode cX1_ask 226 = .ok (.iload 7, 2) := dk_21 7 (dk_at dksX1_ask_9 17 rfl rfl)
theorem dX1_ask_228 : decode cX1_ask 228 = .ok (.iload 5, 2) := dk_21 5 (dk_at dksX1_ask_9 19 rfl rfl)
theorem dX1_ask_230 : decode cX1_ask 230 = .ok (.if_icmp .gt 6, 3) := dk_163 0 6 (dk_at dksX1_ask_9 21 rfl rfl)
theorem dX1_ask_233 : decode cX1_ask 233 = .ok (.goto 11, 3) := dk_167 0 11 (dk_at dksX1_ask_10 0 rfl rfl)
theorem dX1_ask_236 : decode cX1_ask 236 = .ok (.iload 6, 2) := dk_21 6 (dk_at dksX1_ask_10 3 rfl rfl)
theorem dX1_ask_238 : decode cX1_ask 238 = .ok (.istore 4, 2) := dk_54 4 (dk_at dksX1_ask_10 5 rfl rfl)
theorem dX1_ask_240 : decode cX1_ask 240 = .ok (.iload 7, 2) := dk_21 7 (dk_at dksX1_ask_10 7 rfl rfl)
theorem dX1_ask_242 : decode cX1_ask 242 = .ok (.istore 5, 2) := dk_54 5 (dk_at dksX1_ask_10 9 rfl rfl)
theorem dX1_ask_244 : decode cX1_ask 244 = .ok (.iinc 6 1, 3) := dk_132 6 1 (dk_at dksX1_ask_10 11 rfl rfl)
theorem dX1_ask_247 : decode cX1_ask 247 = .ok (.goto (-108), 3) := dk_167 255 148 (dk_at dksX1_ask_10 14 rfl rfl)
theorem dX1_ask_250 : decode cX1_ask 250 = .ok (.iload_n 1, 1) := dk_27 (dk_at dksX1_ask_10 17 rfl rfl)
theorem dX1_ask_251 : decode cX1_ask 251 = .ok (.ifCond .ne 8, 3) := dk_154 0 8 (dk_at dksX1_ask_10 18 rfl rfl)
theorem dX1_ask_254 : decode cX1_ask 254 = .ok (.iload 4, 2) := dk_21 4 (dk_at dksX1_ask_10 21 rfl rfl)
theorem dX1_ask_256 : decode cX1_ask 256 = .ok (.goto 5, 3) := dk_167 0 5 (dk_at dksX1_ask_11 0 rfl rfl)
theorem dX1_ask_259 : decode cX1_ask 259 = .ok (.iload 5, 2) := dk_21 5 (dk_at dksX1_ask_11 3 rfl rfl)
theorem dX1_ask_261 : decode cX1_ask 261 = .ok (.ireturn, 1) := dk_172 (dk_at dksX1_ask_11 5 rfl rfl)
abbrev cX1_fires : ByteArray := prog_1_method_49_code
def yX1_fires : MethodName := ⟨RX1, "fires", "(II)I"⟩
def dkwX1_fires_5 : List UInt8 := [153, 0, 8, 29, 21, 5, 96, 62, 132, 4, 1, 167, 255, 163, 29, 172]
abbrev dktX1_fires_5 : List UInt8 := dkwX1_fires_5 ++ []
def dkwX1_fires_4 : List UInt8 := [180, 0, 31, 21, 7, 182, 0, 197, 128, 54, 6, 132, 7, 1, 167, 255, 200, 42, 27, 21, 6, 182, 0, 188]
abbrev dktX1_fires_4 : List UInt8 := dkwX1_fires_4 ++ dktX1_fires_5
def dkwX1_fires_3 : List UInt8 := [167, 0, 7, 16, 10, 28, 100, 104, 54, 5, 21, 4, 21, 7, 184, 0, 171, 153, 0, 17, 21, 6, 42]
abbrev dktX1_fires_3 : List UInt8 := dkwX1_fires_3 ++ dktX1_fires_4
def dkwX1_fires_2 : List UInt8 := [54, 6, 3, 54, 7, 21, 7, 7, 162, 0, 56, 21, 5, 21, 4, 21, 7, 184, 0, 171, 153, 0, 7, 28]
abbrev dktX1_fires_2 : List UInt8 := dkwX1_fires_2 ++ dktX1_fires_3
def dkwX1_fires_1 : List UInt8 := [182, 0, 188, 153, 0, 5, 2, 172, 3, 62, 3, 54, 4, 21, 4, 16, 16, 162, 0, 92, 4, 54, 5, 3]
abbrev dktX1_fires_1 : List UInt8 := dkwX1_fires_1 ++ dktX1_fires_2
def dkwX1_fires_0 : List UInt8 := [42, 27, 182, 0, 179, 28, 3, 16, 10, 184, 0, 122, 184, 0, 62, 42, 27, 42, 180, 0, 31, 182, 0, 110]
abbrev dktX1_fires_0 : List UInt8 := dkwX1_fires_0 ++ dktX1_fires_1
theorem dksX1_fires_0 : cX1_fires.data.toList.drop 0 = dktX1_fires_0 := by decide +kernel
theorem dksX1_fires_1 : cX1_fires.data.toList.drop 24 = dktX1_fires_1 := dk_seg dksX1_fires_0 24 rfl rfl
theorem dksX1_fires_2 : cX1_fires.data.toList.drop 48 = dktX1_fires_2 := dk_seg dksX1_fires_1 24 rfl rfl
theorem dksX1_fires_3 : cX1_fires.data.toList.drop 72 = dktX1_fires_3 := dk_seg dksX1_fires_2 24 rfl rfl
theorem dksX1_fires_4 : cX1_fires.data.toList.drop 95 = dktX1_fires_4 := dk_seg dksX1_fires_3 23 rfl rfl
theorem dksX1_fires_5 : cX1_fires.data.toList.drop 119 = dktX1_fires_5 := dk_seg dksX1_fires_4 24 rfl rfl
theorem dX1_fires_0 : decode cX1_fires 0 = .ok (.aload_n 0, 1) := dk_42 (dk_at dksX1_fires_0 0 rfl rfl)
theorem dX1_fires_1 : decode cX1_fires 1 = .ok (.iload_n 1, 1) := dk_27 (dk_at dksX1_fires_0 1 rfl rfl)
theorem dX1_fires_2 : decode cX1_fires 2 = .ok (.invokevirtual 179, 3) := dk_182 0 179 (dk_at dksX1_fires_0 2 rfl rfl)
theorem dX1_fires_5 : decode cX1_fires 5 = .ok (.iload_n 2, 1) := dk_28 (dk_at dksX1_fires_0 5 rfl rfl)
theorem dX1_fires_6 : decode cX1_fires 6 = .ok (.iconst 0, 1) := dk_3 (dk_at dksX1_fires_0 6 rfl rfl)
theorem dX1_fires_7 : decode cX1_fires 7 = .ok (.bipush 10, 2) := dk_16 10 (dk_at dksX1_fires_0 7 rfl rfl)
theorem dX1_fires_9 : decode cX1_fires 9 = .ok (.invokestatic 122, 3) := dk_184 0 122 (dk_at dksX1_fires_0 9 rfl rfl)
theorem dX1_fires_12 : decode cX1_fires 12 = .ok (.invokestatic 62, 3) := dk_184 0 62 (dk_at dksX1_fires_0 12 rfl rfl)
theorem dX1_fires_15 : decode cX1_fires 15 = .ok (.aload_n 0, 1) := dk_42 (dk_at dksX1_fires_0 15 rfl rfl)
theorem dX1_fires_16 : decode cX1_fires 16 = .ok (.iload_n 1, 1) := dk_27 (dk_at dksX1_fires_0 16 rfl rfl)
theorem dX1_fires_17 : decode cX1_fires 17 = .ok (.aload_n 0, 1) := dk_42 (dk_at dksX1_fires_0 17 rfl rfl)
theorem dX1_fires_18 : decode cX1_fires 18 = .ok (.getfield 31, 3) := dk_180 0 31 (dk_at dksX1_fires_0 18 rfl rfl)
theorem dX1_fires_21 : decode cX1_fires 21 = .ok (.invokevirtual 110, 3) := dk_182 0 110 (dk_at dksX1_fires_0 21 rfl rfl)
theorem dX1_fires_24 : decode cX1_fires 24 = .ok (.invokevirtual 188, 3) := dk_182 0 188 (dk_at dksX1_fires_1 0 rfl rfl)
theorem dX1_fires_27 : decode cX1_fires 27 = .ok (.ifCond .eq 5, 3) := dk_153 0 5 (dk_at dksX1_fires_1 3 rfl rfl)
theorem dX1_fires_30 : decode cX1_fires 30 = .ok (.iconst (-1), 1) := dk_2 (dk_at dksX1_fires_1 6 rfl rfl)
theorem dX1_fires_31 : decode cX1_fires 31 = .ok (.ireturn, 1) := dk_172 (dk_at dksX1_fires_1 7 rfl rfl)
theorem dX1_fires_32 : decode cX1_fires 32 = .ok (.iconst 0, 1) := dk_3 (dk_at dksX1_fires_1 8 rfl rfl)
theorem dX1_fires_33 : decode cX1_fires 33 = .ok (.istore_n 3, 1) := dk_62 (dk_at dksX1_fires_1 9 rfl rfl)
theorem dX1_fires_34 : decode cX1_fires 34 = .ok (.iconst 0, 1) := dk_3 (dk_at dksX1_fires_1 10 rfl rfl)
theorem dX1_fires_35 : decode cX1_fires 35 = .ok (.istore 4, 2) := dk_54 4 (dk_at dksX1_fires_1 11 rfl rfl)
theorem dX1_fires_37 : decode cX1_fires 37 = .ok (.iload 4, 2) := dk_21 4 (dk_at dksX1_fires_1 13 rfl rfl)
theorem dX1_fires_39 : decode cX1_fires 39 = .ok (.bipush 16, 2) := dk_16 16 (dk_at dksX1_fires_1 15 rfl rfl)
theorem dX1_fires_41 : decode cX1_fires 41 = .ok (.if_icmp .ge 92, 3) := dk_162 0 92 (dk_at dksX1_fires_1 17 rfl rfl)
theorem dX1_fires_44 : decode cX1_fires 44 = .ok (.iconst 1, 1) := dk_4 (dk_at dksX1_fires_1 20 rfl rfl)
theorem dX1_fires_45 : decode cX1_fires 45 = .ok (.istore 5, 2) := dk_54 5 (dk_at dksX1_fires_1 21 rfl rfl)
theorem dX1_fires_47 : decode cX1_fires 47 = .ok (.iconst 0, 1) := dk_3 (dk_at dksX1_fires_1 23 rfl rfl)
theorem dX1_fires_48 : decode cX1_fires 48 = .ok (.istore 6, 2) := dk_54 6 (dk_at dksX1_fires_2 0 rfl rfl)
theorem dX1_fires_50 : decode cX1_fires 50 = .ok (.iconst 0, 1) := dk_3 (dk_at dksX1_fires_2 2 rfl rfl)
theorem dX1_fires_51 : decode cX1_fires 51 = .ok (.istore 7, 2) := dk_54 7 (dk_at dksX1_fires_2 3 rfl rfl)
theorem dX1_fires_53 : decode cX1_fires 53 = .ok (.iload 7, 2) := dk_21 7 (dk_at dksX1_fires_2 5 rfl rfl)
theorem dX1_fires_55 : decode cX1_fires 55 = .ok (.iconst 4, 1) := dk_7 (dk_at dksX1_fires_2 7 rfl rfl)
theorem dX1_fires_56 : decode cX1_fires 56 = .ok (.if_icmp .ge 56, 3) := dk_162 0 56 (dk_at dksX1_fires_2 8 rfl rfl)
theorem dX1_fires_59 : decode cX1_fires 59 = .ok (.iload 5, 2) := dk_21 5 (dk_at dksX1_fires_2 11 rfl rfl)
theorem dX1_fires_61 : decode cX1_fires 61 = .ok (.iload 4, 2) := dk_21 4 (dk_at dksX1_fires_2 13 rfl rfl)
theorem dX1_fires_63 : decode cX1_fires 63 = .ok (.iload 7, 2) := dk_21 7 (dk_at dksX1_fires_2 15 rfl rfl)
theorem dX1_fires_65 : decode cX1_fires 65 = .ok (.invokestatic 171, 3) := dk_184 0 171 (dk_at dksX1_fires_2 17 rfl rfl)
theorem dX1_fires_68 : decode cX1_fires 68 = .ok (.ifCond .eq 7, 3) := dk_153 0 7 (dk_at dksX1_fires_2 20 rfl rfl)
theorem dX1_fires_71 : decode cX1_fires 71 = .ok (.iload_n 2, 1) := dk_28 (dk_at dksX1_fires_2 23 rfl rfl)
theorem dX1_fires_72 : decode cX1_fires 72 = .ok (.goto 7, 3) := dk_167 0 7 (dk_at dksX1_fires_3 0 rfl rfl)
theorem dX1_fires_75 : decode cX1_fires 75 = .ok (.bipush 10, 2) := dk_16 10 (dk_at dksX1_fires_3 3 rfl rfl)
theorem dX1_fires_77 : decode cX1_fires 77 = .ok (.iload_n 2, 1) := dk_28 (dk_at dksX1_fires_3 5 rfl rfl)
theorem dX1_fires_78 : decode cX1_fires 78 = .ok (.isub, 1) := dk_100 (dk_at dksX1_fires_3 6 rfl rfl)
theorem dX1_fires_79 : decode cX1_fires 79 = .ok (.imul, 1) := dk_104 (dk_at dksX1_fires_3 7 rfl rfl)
theorem dX1_fires_80 : decode cX1_fires 80 = .ok (.istore 5, 2) := dk_54 5 (dk_at dksX1_fires_3 8 rfl rfl)
theorem dX1_fires_82 : decode cX1_fires 82 = .ok (.iload 4, 2) := dk_21 4 (dk_at dksX1_fires_3 10 rfl rfl)
theorem dX1_fires_84 : decode cX1_fires 84 = .ok (.iload 7, 2) := dk_21 7 (dk_at dksX1_fires_3 12 rfl rfl)
theorem dX1_fires_86 : decode cX1_fires 86 = .ok (.invokestatic 171, 3) := dk_184 0 171 (dk_at dksX1_fires_3 14 rfl rfl)
theorem dX1_fires_89 : decode cX1_fires 89 = .ok (.ifCond .eq 17, 3) := dk_153 0 17 (dk_at dksX1_fires_3 17 rfl rfl)
theorem dX1_fires_92 : decode cX1_fires 92 = .ok (.iload 6, 2) := dk_21 6 (dk_at dksX1_fires_3 20 rfl rfl)
theorem dX1_fires_94 : decode cX1_fires 94 = .ok (.aload_n 0, 1) := dk_42 (dk_at dksX1_fires_3 22 rfl rfl)
theorem dX1_fires_95 : decode cX1_fires 95 = .ok (.getfield 31, 3) := dk_180 0 31 (dk_at dksX1_fires_4 0 rfl rfl)
theorem dX1_fires_98 : decode cX1_fires 98 = .ok (.iload 7, 2) := dk_21 7 (dk_at dksX1_fires_4 3 rfl rfl)
theorem dX1_fires_100 : decode cX1_fires 100 = .ok (.invokevirtual 197, 3) := dk_182 0 197 (dk_at dksX1_fires_4 5 rfl rfl)
theorem dX1_fires_103 : decode cX1_fires 103 = .ok (.ior, 1) := dk_128 (dk_at dksX1_fires_4 8 rfl rfl)
theorem dX1_fires_104 : decode cX1_fires 104 = .ok (.istore 6, 2) := dk_54 6 (dk_at dksX1_fires_4 9 rfl rfl)
theorem dX1_fires_106 : decode cX1_fires 106 = .ok (.iinc 7 1, 3) := dk_132 7 1 (dk_at dksX1_fires_4 11 rfl rfl)
theorem dX1_fires_109 : decode cX1_fires 109 = .ok (.goto (-56), 3) := dk_167 255 200 (dk_at dksX1_fires_4 14 rfl rfl)
theorem dX1_fires_112 : decode cX1_fires 112 = .ok (.aload_n 0, 1) := dk_42 (dk_at dksX1_fires_4 17 rfl rfl)
theorem dX1_fires_113 : decode cX1_fires 113 = .ok (.iload_n 1, 1) := dk_27 (dk_at dksX1_fires_4 18 rfl rfl)
theorem dX1_fires_114 : decode cX1_fires 114 = .ok (.iload 6, 2) := dk_21 6 (dk_at dksX1_fires_4 19 rfl rfl)
theorem dX1_fires_116 : decode cX1_fires 116 = .ok (.invokevirtual 188, 3) := dk_182 0 188 (dk_at dksX1_fires_4 21 rfl rfl)
theorem dX1_fires_119 : decode cX1_fires 119 = .ok (.ifCond .eq 8, 3) := dk_153 0 8 (dk_at dksX1_fires_5 0 rfl rfl)
theorem dX1_fires_122 : decode cX1_fires 122 = .ok (.iload_n 3, 1) := dk_29 (dk_at dksX1_fires_5 3 rfl rfl)
theorem dX1_fires_123 : decode cX1_fires 123 = .ok (.iload 5, 2) := dk_21 5 (dk_at dksX1_fires_5 4 rfl rfl)
theorem dX1_fires_125 : decode cX1_fires 125 = .ok (.iadd, 1) := dk_96 (dk_at dksX1_fires_5 6 rfl rfl)
theorem dX1_fires_126 : decode cX1_fires 126 = .ok (.istore_n 3, 1) := dk_62 (dk_at dksX1_fires_5 7 rfl rfl)
theorem dX1_fires_127 : decode cX1_fires 127 = .ok (.iinc 4 1, 3) := dk_132 4 1 (dk_at dksX1_fires_5 8 rfl rfl)
theorem dX1_fires_130 : decode cX1_fires 130 = .ok (.goto (-93), 3) := dk_167 255 163 (dk_at dksX1_fires_5 11 rfl rfl)
theorem dX1_fires_133 : decode cX1_fires 133 = .ok (.iload_n 3, 1) := dk_29 (dk_at dksX1_fires_5 14 rfl rfl)
theorem dX1_fires_134 : decode cX1_fires 134 = .ok (.ireturn, 1) := dk_172 (dk_at dksX1_fires_5 15 rfl rfl)
abbrev cX1_game : ByteArray := prog_1_method_58_code
def yX1_game : MethodName := ⟨RX1, "game", "(III)I"⟩
def dkwX1_game_6 : List UInt8 := [167, 0, 5, 21, 5, 172]
abbrev dktX1_game_6 : List UInt8 := dkwX1_game_6 ++ []
def dkwX1_game_5 : List UInt8 := [54, 5, 132, 4, 1, 132, 7, 1, 167, 255, 176, 132, 6, 1, 167, 255, 161, 29, 154, 0, 8, 21, 4]
abbrev dktX1_game_5 : List UInt8 := dkwX1_game_5 ++ dktX1_game_6
def dkwX1_game_4 : List UInt8 := [21, 6, 182, 1, 54, 164, 0, 6, 167, 0, 21, 21, 4, 154, 0, 13, 16, 10, 21, 6, 104, 21, 7, 96]
abbrev dktX1_game_4 : List UInt8 := dkwX1_game_4 ++ dktX1_game_5
def dkwX1_game_3 : List UInt8 := [182, 1, 54, 163, 0, 49, 42, 28, 27, 4, 21, 7, 100, 21, 6, 182, 1, 54, 42, 28, 27, 21, 7]
abbrev dktX1_game_3 : List UInt8 := dkwX1_game_3 ++ dktX1_game_4
def dkwX1_game_2 : List UInt8 := [5, 162, 0, 80, 42, 27, 28, 4, 21, 6, 100, 21, 7, 182, 1, 54, 42, 27, 28, 21, 6, 21, 7]
abbrev dktX1_game_2 : List UInt8 := dkwX1_game_2 ++ dktX1_game_3
def dkwX1_game_1 : List UInt8 := [3, 184, 0, 62, 3, 54, 4, 2, 54, 5, 3, 54, 6, 21, 6, 5, 162, 0, 95, 3, 54, 7, 21, 7]
abbrev dktX1_game_1 : List UInt8 := dkwX1_game_1 ++ dktX1_game_2
def dkwX1_game_0 : List UInt8 := [42, 27, 182, 0, 152, 42, 28, 182, 0, 152, 29, 4, 184, 0, 133, 27, 28, 159, 0, 7, 4, 167, 0, 4]
abbrev dktX1_game_0 : List UInt8 := dkwX1_game_0 ++ dktX1_game_1
theorem dksX1_game_0 : cX1_game.data.toList.drop 0 = dktX1_game_0 := by decide +kernel
theorem dksX1_game_1 : cX1_game.data.toList.drop 24 = dktX1_game_1 := dk_seg dksX1_game_0 24 rfl rfl
theorem dksX1_game_2 : cX1_game.data.toList.drop 48 = dktX1_game_2 := dk_seg dksX1_game_1 24 rfl rfl
theorem dksX1_game_3 : cX1_game.data.toList.drop 71 = dktX1_game_3 := dk_seg dksX1_game_2 23 rfl rfl
theorem dksX1_game_4 : cX1_game.data.toList.drop 94 = dktX1_game_4 := dk_seg dksX1_game_3 23 rfl rfl
theorem dksX1_game_5 : cX1_game.data.toList.drop 118 = dktX1_game_5 := dk_seg dksX1_game_4 24 rfl rfl
theorem dksX1_game_6 : cX1_game.data.toList.drop 141 = dktX1_game_6 := dk_seg dksX1_game_5 23 rfl rfl
theorem dX1_game_0 : decode cX1_game 0 = .ok (.aload_n 0, 1) := dk_42 (dk_at dksX1_game_0 0 rfl rfl)
theorem dX1_game_1 : decode cX1_game 1 = .ok (.iload_n 1, 1) := dk_27 (dk_at dksX1_game_0 1 rfl rfl)
theorem dX1_game_2 : decode cX1_game 2 = .ok (.invokevirtual 152, 3) := dk_182 0 152 (dk_at dksX1_game_0 2 rfl rfl)
theorem dX1_game_5 : decode cX1_game 5 = .ok (.aload_n 0, 1) := dk_42 (dk_at dksX1_game_0 5 rfl rfl)
theorem dX1_game_6 : decode cX1_game 6 = .ok (.iload_n 2, 1) := dk_28 (dk_at dksX1_game_0 6 rfl rfl)
theorem dX1_game_7 : decode cX1_game 7 = .ok (.invokevirtual 152, 3) := dk_182 0 152 (dk_at dksX1_game_0 7 rfl rfl)
theorem dX1_game_10 : decode cX1_game 10 = .ok (.iload_n 3, 1) := dk_29 (dk_at dksX1_game_0 10 rfl rfl)
theorem dX1_game_11 : decode cX1_game 11 = .ok (.iconst 1, 1) := dk_4 (dk_at dksX1_game_0 11 rfl rfl)
theorem dX1_game_12 : decode cX1_game 12 = .ok (.invokestatic 133, 3) := dk_184 0 133 (dk_at dksX1_game_0 12 rfl rfl)
theorem dX1_game_15 : decode cX1_game 15 = .ok (.iload_n 1, 1) := dk_27 (dk_at dksX1_game_0 15 rfl rfl)
theorem dX1_game_16 : decode cX1_game 16 = .ok (.iload_n 2, 1) := dk_28 (dk_at dksX1_game_0 16 rfl rfl)
theorem dX1_game_17 : decode cX1_game 17 = .ok (.if_icmp .eq 7, 3) := dk_159 0 7 (dk_at dksX1_game_0 17 rfl rfl)
theorem dX1_game_20 : decode cX1_game 20 = .ok (.iconst 1, 1) := dk_4 (dk_at dksX1_game_0 20 rfl rfl)
theorem dX1_game_21 : decode cX1_game 21 = .ok (.goto 4, 3) := dk_167 0 4 (dk_at dksX1_game_0 21 rfl rfl)
theorem dX1_game_24 : decode cX1_game 24 = .ok (.iconst 0, 1) := dk_3 (dk_at dksX1_game_1 0 rfl rfl)
theorem dX1_game_25 : decode cX1_game 25 = .ok (.invokestatic 62, 3) := dk_184 0 62 (dk_at dksX1_game_1 1 rfl rfl)
theorem dX1_game_28 : decode cX1_game 28 = .ok (.iconst 0, 1) := dk_3 (dk_at dksX1_game_1 4 rfl rfl)
theorem dX1_game_29 : decode cX1_game 29 = .ok (.istore 4, 2) := dk_54 4 (dk_at dksX1_game_1 5 rfl rfl)
theorem dX1_game_31 : decode cX1_game 31 = .ok (.iconst (-1), 1) := dk_2 (dk_at dksX1_game_1 7 rfl rfl)
theorem dX1_game_32 : decode cX1_game 32 = .ok (.istore 5, 2) := dk_54 5 (dk_at dksX1_game_1 8 rfl rfl)
theorem dX1_game_34 : decode cX1_game 34 = .ok (.iconst 0, 1) := dk_3 (dk_at dksX1_game_1 10 rfl rfl)
theorem dX1_game_35 : decode cX1_game 35 = .ok (.istore 6, 2) := dk_54 6 (dk_at dksX1_game_1 11 rfl rfl)
theorem dX1_game_37 : decode cX1_game 37 = .ok (.iload 6, 2) := dk_21 6 (dk_at dksX1_game_1 13 rfl rfl)
theorem dX1_game_39 : decode cX1_game 39 = .ok (.iconst 2, 1) := dk_5 (dk_at dksX1_game_1 15 rfl rfl)
theorem dX1_game_40 : decode cX1_game 40 = .ok (.if_icmp .ge 95, 3) := dk_162 0 95 (dk_at dksX1_game_1 16 rfl rfl)
theorem dX1_game_43 : decode cX1_game 43 = .ok (.iconst 0, 1) := dk_3 (dk_at dksX1_game_1 19 rfl rfl)
theorem dX1_game_44 : decode cX1_game 44 = .ok (.istore 7, 2) := dk_54 7 (dk_at dksX1_game_1 20 rfl rfl)
theorem dX1_game_46 : decode cX1_game 46 = .ok (.iload 7, 2) := dk_21 7 (dk_at dksX1_game_1 22 rfl rfl)
theorem dX1_game_48 : decode cX1_game 48 = .ok (.iconst 2, 1) := dk_5 (dk_at dksX1_game_2 0 rfl rfl)
theorem dX1_game_49 : decode cX1_game 49 = .ok (.if_icmp .ge 80, 3) := dk_162 0 80 (dk_at dksX1_game_2 1 rfl rfl)
theorem dX1_game_52 : decode cX1_game 52 = .ok (.aload_n 0, 1) := dk_42 (dk_at dksX1_game_2 4 rfl rfl)
theorem dX1_game_53 : decode cX1_game 53 = .ok (.iload_n 1, 1) := dk_27 (dk_at dksX1_game_2 5 rfl rfl)
theorem dX1_game_54 : decode cX1_game 54 = .ok (.iload_n 2, 1) := dk_28 (dk_at dksX1_game_2 6 rfl rfl)
theorem dX1_game_55 : decode cX1_game 55 = .ok (.iconst 1, 1) := dk_4 (dk_at dksX1_game_2 7 rfl rfl)
theorem dX1_game_56 : decode cX1_game 56 = .ok (.iload 6, 2) := dk_21 6 (dk_at dksX1_game_2 8 rfl rfl)
theorem dX1_game_58 : decode cX1_game 58 = .ok (.isub, 1) := dk_100 (dk_at dksX1_game_2 10 rfl rfl)
theorem dX1_game_59 : decode cX1_game 59 = .ok (.iload 7, 2) := dk_21 7 (dk_at dksX1_game_2 11 rfl rfl)
theorem dX1_game_61 : decode cX1_game 61 = .ok (.invokevirtual 310, 3) := dk_182 1 54 (dk_at dksX1_game_2 13 rfl rfl)
theorem dX1_game_64 : decode cX1_game 64 = .ok (.aload_n 0, 1) := dk_42 (dk_at dksX1_game_2 16 rfl rfl)
theorem dX1_game_65 : decode cX1_game 65 = .ok (.iload_n 1, 1) := dk_27 (dk_at dksX1_game_2 17 rfl rfl)
theorem dX1_game_66 : decode cX1_game 66 = .ok (.iload_n 2, 1) := dk_28 (dk_at dksX1_game_2 18 rfl rfl)
theorem dX1_game_67 : decode cX1_game 67 = .ok (.iload 6, 2) := dk_21 6 (dk_at dksX1_game_2 19 rfl rfl)
theorem dX1_game_69 : decode cX1_game 69 = .ok (.iload 7, 2) := dk_21 7 (dk_at dksX1_game_2 21 rfl rfl)
theorem dX1_game_71 : decode cX1_game 71 = .ok (.invokevirtual 310, 3) := dk_182 1 54 (dk_at dksX1_game_3 0 rfl rfl)
theorem dX1_game_74 : decode cX1_game 74 = .ok (.if_icmp .gt 49, 3) := dk_163 0 49 (dk_at dksX1_game_3 3 rfl rfl)
theorem dX1_game_77 : decode cX1_game 77 = .ok (.aload_n 0, 1) := dk_42 (dk_at dksX1_game_3 6 rfl rfl)
theorem dX1_game_78 : decode cX1_game 78 = .ok (.iload_n 2, 1) := dk_28 (dk_at dksX1_game_3 7 rfl rfl)
theorem dX1_game_79 : decode cX1_game 79 = .ok (.iload_n 1, 1) := dk_27 (dk_at dksX1_game_3 8 rfl rfl)
theorem dX1_game_80 : decode cX1_game 80 = .ok (.iconst 1, 1) := dk_4 (dk_at dksX1_game_3 9 rfl rfl)
theorem dX1_game_81 : decode cX1_game 81 = .ok (.iload 7, 2) := dk_21 7 (dk_at dksX1_game_3 10 rfl rfl)
theorem dX1_game_83 : decode cX1_game 83 = .ok (.isub, 1) := dk_100 (dk_at dksX1_game_3 12 rfl rfl)
theorem dX1_game_84 : decode cX1_game 84 = .ok (.iload 6, 2) := dk_21 6 (dk_at dksX1_game_3 13 rfl rfl)
theorem dX1_game_86 : decode cX1_game 86 = .ok (.invokevirtual 310, 3) := dk_182 1 54 (dk_at dksX1_game_3 15 rfl rfl)
theorem dX1_game_89 : decode cX1_game 89 = .ok (.aload_n 0, 1) := dk_42 (dk_at dksX1_game_3 18 rfl rfl)
theorem dX1_game_90 : decode cX1_game 90 = .ok (.iload_n 2, 1) := dk_28 (dk_at dksX1_game_3 19 rfl rfl)
theorem dX1_game_91 : decode cX1_game 91 = .ok (.iload_n 1, 1) := dk_27 (dk_at dksX1_game_3 20 rfl rfl)
theorem dX1_game_92 : decode cX1_game 92 = .ok (.iload 7, 2) := dk_21 7 (dk_at dksX1_game_3 21 rfl rfl)
theorem dX1_game_94 : decode cX1_game 94 = .ok (.iload 6, 2) := dk_21 6 (dk_at dksX1_game_4 0 rfl rfl)
theorem dX1_game_96 : decode cX1_game 96 = .ok (.invokevirtual 310, 3) := dk_182 1 54 (dk_at dksX1_game_4 2 rfl rfl)
theorem dX1_game_99 : decode cX1_game 99 = .ok (.if_icmp .le 6, 3) := dk_164 0 6 (dk_at dksX1_game_4 5 rfl rfl)
theorem dX1_game_102 : decode cX1_game 102 = .ok (.goto 21, 3) := dk_167 0 21 (dk_at dksX1_game_4 8 rfl rfl)
theorem dX1_game_105 : decode cX1_game 105 = .ok (.iload 4, 2) := dk_21 4 (dk_at dksX1_game_4 11 rfl rfl)
theorem dX1_game_107 : decode cX1_game 107 = .ok (.ifCond .ne 13, 3) := dk_154 0 13 (dk_at dksX1_game_4 13 rfl rfl)
theorem dX1_game_110 : decode cX1_game 110 = .ok (.bipush 10, 2) := dk_16 10 (dk_at dksX1_game_4 16 rfl rfl)
theorem dX1_game_112 : decode cX1_game 112 = .ok (.iload 6, 2) := dk_21 6 (dk_at dksX1_game_4 18 rfl rfl)
theorem dX1_game_114 : decode cX1_game 114 = .ok (.imul, 1) := dk_104 (dk_at dksX1_game_4 20 rfl rfl)
theorem dX1_game_115 : decode cX1_game 115 = .ok (.iload 7, 2) := dk_21 7 (dk_at dksX1_game_4 21 rfl rfl)
theorem dX1_game_117 : decode cX1_game 117 = .ok (.iadd, 1) := dk_96 (dk_at dksX1_game_4 23 rfl rfl)
theorem dX1_game_118 : decode cX1_game 118 = .ok (.istore 5, 2) := dk_54 5 (dk_at dksX1_game_5 0 rfl rfl)
theorem dX1_game_120 : decode cX1_game 120 = .ok (.iinc 4 1, 3) := dk_132 4 1 (dk_at dksX1_game_5 2 rfl rfl)
theorem dX1_game_123 : decode cX1_game 123 = .ok (.iinc 7 1, 3) := dk_132 7 1 (dk_at dksX1_game_5 5 rfl rfl)
theorem dX1_game_126 : decode cX1_game 126 = .ok (.goto (-80), 3) := dk_167 255 176 (dk_at dksX1_game_5 8 rfl rfl)
theorem dX1_game_129 : decode cX1_game 129 = .ok (.iinc 6 1, 3) := dk_132 6 1 (dk_at dksX1_game_5 11 rfl rfl)
theorem dX1_game_132 : decode cX1_game 132 = .ok (.goto (-95), 3) := dk_167 255 161 (dk_at dksX1_game_5 14 rfl rfl)
theorem dX1_game_135 : decode cX1_game 135 = .ok (.iload_n 3, 1) := dk_29 (dk_at dksX1_game_5 17 rfl rfl)
theorem dX1_game_136 : decode cX1_game 136 = .ok (.ifCond .ne 8, 3) := dk_154 0 8 (dk_at dksX1_game_5 18 rfl rfl)
theorem dX1_game_139 : decode cX1_game 139 = .ok (.iload 4, 2) := dk_21 4 (dk_at dksX1_game_5 21 rfl rfl)
theorem dX1_game_141 : decode cX1_game 141 = .ok (.goto 5, 3) := dk_167 0 5 (dk_at dksX1_game_6 0 rfl rfl)
theorem dX1_game_144 : decode cX1_game 144 = .ok (.iload 5, 2) := dk_21 5 (dk_at dksX1_game_6 3 rfl rfl)
theorem dX1_game_146 : decode cX1_game 146 = .ok (.ireturn, 1) := dk_172 (dk_at dksX1_game_6 5 rfl rfl)
abbrev cX1_gain : ByteArray := prog_1_method_57_code
def yX1_gain : MethodName := ⟨RX1, "gain", "(IIII)I"⟩
def dkwX1_gain_0 : List UInt8 := [6, 42, 27, 28, 21, 4, 182, 1, 50, 104, 5, 42, 28, 27, 29, 182, 1, 50, 104, 100, 172]
abbrev dktX1_gain_0 : List UInt8 := dkwX1_gain_0 ++ []
theorem dksX1_gain_0 : cX1_gain.data.toList.drop 0 = dktX1_gain_0 := by decide +kernel
theorem dX1_gain_0 : decode cX1_gain 0 = .ok (.iconst 3, 1) := dk_6 (dk_at dksX1_gain_0 0 rfl rfl)
theorem dX1_gain_1 : decode cX1_gain 1 = .ok (.aload_n 0, 1) := dk_42 (dk_at dksX1_gain_0 1 rfl rfl)
theorem dX1_gain_2 : decode cX1_gain 2 = .ok (.iload_n 1, 1) := dk_27 (dk_at dksX1_gain_0 2 rfl rfl)
theorem dX1_gain_3 : decode cX1_gain 3 = .ok (.iload_n 2, 1) := dk_28 (dk_at dksX1_gain_0 3 rfl rfl)
theorem dX1_gain_4 : decode cX1_gain 4 = .ok (.iload 4, 2) := dk_21 4 (dk_at dksX1_gain_0 4 rfl rfl)
theorem dX1_gain_6 : decode cX1_gain 6 = .ok (.invokevirtual 306, 3) := dk_182 1 50 (dk_at dksX1_gain_0 6 rfl rfl)
theorem dX1_gain_9 : decode cX1_gain 9 = .ok (.imul, 1) := dk_104 (dk_at dksX1_gain_0 9 rfl rfl)
theorem dX1_gain_10 : decode cX1_gain 10 = .ok (.iconst 2, 1) := dk_5 (dk_at dksX1_gain_0 10 rfl rfl)
theorem dX1_gain_11 : decode cX1_gain 11 = .ok (.aload_n 0, 1) := dk_42 (dk_at dksX1_gain_0 11 rfl rfl)
theorem dX1_gain_12 : decode cX1_gain 12 = .ok (.iload_n 2, 1) := dk_28 (dk_at dksX1_gain_0 12 rfl rfl)
theorem dX1_gain_13 : decode cX1_gain 13 = .ok (.iload_n 1, 1) := dk_27 (dk_at dksX1_gain_0 13 rfl rfl)
theorem dX1_gain_14 : decode cX1_gain 14 = .ok (.iload_n 3, 1) := dk_29 (dk_at dksX1_gain_0 14 rfl rfl)
theorem dX1_gain_15 : decode cX1_gain 15 = .ok (.invokevirtual 306, 3) := dk_182 1 50 (dk_at dksX1_gain_0 15 rfl rfl)
theorem dX1_gain_18 : decode cX1_gain 18 = .ok (.imul, 1) := dk_104 (dk_at dksX1_gain_0 18 rfl rfl)
theorem dX1_gain_19 : decode cX1_gain 19 = .ok (.isub, 1) := dk_100 (dk_at dksX1_gain_0 19 rfl rfl)
theorem dX1_gain_20 : decode cX1_gain 20 = .ok (.ireturn, 1) := dk_172 (dk_at dksX1_gain_0 20 rfl rfl)
abbrev cX1_news : ByteArray := prog_1_method_56_code
def yX1_news : MethodName := ⟨RX1, "news", "(III)I"⟩
def dkwX1_news_2 : List UInt8 := [126, 184, 1, 7, 172]
abbrev dktX1_news_2 : List UInt8 := dkwX1_news_2 ++ []
def dkwX1_news_1 : List UInt8 := [3, 128, 54, 4, 42, 180, 0, 31, 21, 4, 182, 1, 47, 42, 180, 0, 31, 180, 0, 158, 27, 46, 2, 130]
abbrev dktX1_news_1 : List UInt8 := dkwX1_news_1 ++ dktX1_news_2
def dkwX1_news_0 : List UInt8 := [42, 180, 0, 31, 27, 182, 0, 161, 29, 4, 160, 0, 14, 42, 180, 0, 31, 28, 182, 0, 161, 167, 0, 4]
abbrev dktX1_news_0 : List UInt8 := dkwX1_news_0 ++ dktX1_news_1
theorem dksX1_news_0 : cX1_news.data.toList.drop 0 = dktX1_news_0 := by decide +kernel
theorem dksX1_news_1 : cX1_news.data.toList.drop 24 = dktX1_news_1 := dk_seg dksX1_news_0 24 rfl rfl
theorem dksX1_news_2 : cX1_news.data.toList.drop 48 = dktX1_news_2 := dk_seg dksX1_news_1 24 rfl rfl
theorem dX1_news_0 : decode cX1_news 0 = .ok (.aload_n 0, 1) := dk_42 (dk_at dksX1_news_0 0 rfl rfl)
theorem dX1_news_1 : decode cX1_news 1 = .ok (.getfield 31, 3) := dk_180 0 31 (dk_at dksX1_news_0 1 rfl rfl)
theorem dX1_news_4 : decode cX1_news 4 = .ok (.iload_n 1, 1) := dk_27 (dk_at dksX1_news_0 4 rfl rfl)
theorem dX1_news_5 : decode cX1_news 5 = .ok (.invokevirtual 161, 3) := dk_182 0 161 (dk_at dksX1_news_0 5 rfl rfl)
theorem dX1_news_8 : decode cX1_news 8 = .ok (.iload_n 3, 1) := dk_29 (dk_at dksX1_news_0 8 rfl rfl)
theorem dX1_news_9 : decode cX1_news 9 = .ok (.iconst 1, 1) := dk_4 (dk_at dksX1_news_0 9 rfl rfl)
theorem dX1_news_10 : decode cX1_news 10 = .ok (.if_icmp .ne 14, 3) := dk_160 0 14 (dk_at dksX1_news_0 10 rfl rfl)
theorem dX1_news_13 : decode cX1_news 13 = .ok (.aload_n 0, 1) := dk_42 (dk_at dksX1_news_0 13 rfl rfl)
theorem dX1_news_14 : decode cX1_news 14 = .ok (.getfield 31, 3) := dk_180 0 31 (dk_at dksX1_news_0 14 rfl rfl)
theorem dX1_news_17 : decode cX1_news 17 = .ok (.iload_n 2, 1) := dk_28 (dk_at dksX1_news_0 17 rfl rfl)
theorem dX1_news_18 : decode cX1_news 18 = .ok (.invokevirtual 161, 3) := dk_182 0 161 (dk_at dksX1_news_0 18 rfl rfl)
theorem dX1_news_21 : decode cX1_news 21 = .ok (.goto 4, 3) := dk_167 0 4 (dk_at dksX1_news_0 21 rfl rfl)
theorem dX1_news_24 : decode cX1_news 24 = .ok (.iconst 0, 1) := dk_3 (dk_at dksX1_news_1 0 rfl rfl)
theorem dX1_news_25 : decode cX1_news 25 = .ok (.ior, 1) := dk_128 (dk_at dksX1_news_1 1 rfl rfl)
theorem dX1_news_26 : decode cX1_news 26 = .ok (.istore 4, 2) := dk_54 4 (dk_at dksX1_news_1 2 rfl rfl)
theorem dX1_news_28 : decode cX1_news 28 = .ok (.aload_n 0, 1) := dk_42 (dk_at dksX1_news_1 4 rfl rfl)
theorem dX1_news_29 : decode cX1_news 29 = .ok (.getfield 31, 3) := dk_180 0 31 (dk_at dksX1_news_1 5 rfl rfl)
theorem dX1_news_32 : decode cX1_news 32 = .ok (.iload 4, 2) := dk_21 4 (dk_at dksX1_news_1 8 rfl rfl)
theorem dX1_news_34 : decode cX1_news 34 = .ok (.invokevirtual 303, 3) := dk_182 1 47 (dk_at dksX1_news_1 10 rfl rfl)
theorem dX1_news_37 : decode cX1_news 37 = .ok (.aload_n 0, 1) := dk_42 (dk_at dksX1_news_1 13 rfl rfl)
theorem dX1_news_38 : decode cX1_news 38 = .ok (.getfield 31, 3) := dk_180 0 31 (dk_at dksX1_news_1 14 rfl rfl)
theorem dX1_news_41 : decode cX1_news 41 = .ok (.getfield 158, 3) := dk_180 0 158 (dk_at dksX1_news_1 17 rfl rfl)
theorem dX1_news_44 : decode cX1_news 44 = .ok (.iload_n 1, 1) := dk_27 (dk_at dksX1_news_1 20 rfl rfl)
theorem dX1_news_45 : decode cX1_news 45 = .ok (.iaload, 1) := dk_46 (dk_at dksX1_news_1 21 rfl rfl)
theorem dX1_news_46 : decode cX1_news 46 = .ok (.iconst (-1), 1) := dk_2 (dk_at dksX1_news_1 22 rfl rfl)
theorem dX1_news_47 : decode cX1_news 47 = .ok (.ixor, 1) := dk_130 (dk_at dksX1_news_1 23 rfl rfl)
theorem dX1_news_48 : decode cX1_news 48 = .ok (.iand, 1) := dk_126 (dk_at dksX1_news_2 0 rfl rfl)
theorem dX1_news_49 : decode cX1_news 49 = .ok (.invokestatic 263, 3) := dk_184 1 7 (dk_at dksX1_news_2 1 rfl rfl)
theorem dX1_news_52 : decode cX1_news 52 = .ok (.ireturn, 1) := dk_172 (dk_at dksX1_news_2 4 rfl rfl)
abbrev cX1_years : ByteArray := prog_1_method_61_code
def yX1_years : MethodName := ⟨RX1, "years", "(III)I"⟩
def dkwX1_years_4 : List UInt8 := [182, 0, 110, 184, 1, 7, 100, 167, 0, 13, 42, 180, 0, 35, 182, 0, 113, 184, 1, 7, 172]
abbrev dktX1_years_4 : List UInt8 := dkwX1_years_4 ++ []
def dkwX1_years_3 : List UInt8 := [184, 1, 7, 167, 0, 39, 29, 4, 160, 0, 24, 42, 180, 0, 22, 180, 0, 89, 42, 180, 0, 35]
abbrev dktX1_years_3 : List UInt8 := dkwX1_years_3 ++ dktX1_years_4
def dkwX1_years_2 : List UInt8 := [180, 0, 35, 182, 1, 1, 87, 132, 4, 1, 167, 255, 235, 29, 154, 0, 16, 42, 180, 0, 35, 182, 0, 116]
abbrev dktX1_years_2 : List UInt8 := dkwX1_years_2 ++ dktX1_years_3
def dkwX1_years_1 : List UInt8 := [42, 180, 0, 31, 182, 0, 247, 87, 3, 54, 4, 21, 4, 28, 162, 0, 21, 42, 182, 1, 65, 42]
abbrev dktX1_years_1 : List UInt8 := dkwX1_years_1 ++ dktX1_years_2
def dkwX1_years_0 : List UInt8 := [29, 5, 184, 0, 133, 28, 3, 16, 40, 184, 0, 122, 184, 0, 62, 42, 27, 181, 1, 58, 42, 180, 0, 35]
abbrev dktX1_years_0 : List UInt8 := dkwX1_years_0 ++ dktX1_years_1
theorem dksX1_years_0 : cX1_years.data.toList.drop 0 = dktX1_years_0 := by decide +kernel
theorem dksX1_years_1 : cX1_years.data.toList.drop 24 = dktX1_years_1 := dk_seg dksX1_years_0 24 rfl rfl
theorem dksX1_years_2 : cX1_years.data.toList.drop 46 = dktX1_years_2 := dk_seg dksX1_years_1 22 rfl rfl
theorem dksX1_years_3 : cX1_years.data.toList.drop 70 = dktX1_years_3 := dk_seg dksX1_years_2 24 rfl rfl
theorem dksX1_years_4 : cX1_years.data.toList.drop 92 = dktX1_years_4 := dk_seg dksX1_years_3 22 rfl rfl
theorem dX1_years_0 : decode cX1_years 0 = .ok (.iload_n 3, 1) := dk_29 (dk_at dksX1_years_0 0 rfl rfl)
theorem dX1_years_1 : decode cX1_years 1 = .ok (.iconst 2, 1) := dk_5 (dk_at dksX1_years_0 1 rfl rfl)
theorem dX1_years_2 : decode cX1_years 2 = .ok (.invokestatic 133, 3) := dk_184 0 133 (dk_at dksX1_years_0 2 rfl rfl)
theorem dX1_years_5 : decode cX1_years 5 = .ok (.iload_n 2, 1) := dk_28 (dk_at dksX1_years_0 5 rfl rfl)
theorem dX1_years_6 : decode cX1_years 6 = .ok (.iconst 0, 1) := dk_3 (dk_at dksX1_years_0 6 rfl rfl)
theorem dX1_years_7 : decode cX1_years 7 = .ok (.bipush 40, 2) := dk_16 40 (dk_at dksX1_years_0 7 rfl rfl)
theorem dX1_years_9 : decode cX1_years 9 = .ok (.invokestatic 122, 3) := dk_184 0 122 (dk_at dksX1_years_0 9 rfl rfl)
theorem dX1_years_12 : decode cX1_years 12 = .ok (.invokestatic 62, 3) := dk_184 0 62 (dk_at dksX1_years_0 12 rfl rfl)
theorem dX1_years_15 : decode cX1_years 15 = .ok (.aload_n 0, 1) := dk_42 (dk_at dksX1_years_0 15 rfl rfl)
theorem dX1_years_16 : decode cX1_years 16 = .ok (.iload_n 1, 1) := dk_27 (dk_at dksX1_years_0 16 rfl rfl)
theorem dX1_years_17 : decode cX1_years 17 = .ok (.putfield 314, 3) := dk_181 1 58 (dk_at dksX1_years_0 17 rfl rfl)
theorem dX1_years_20 : decode cX1_years 20 = .ok (.aload_n 0, 1) := dk_42 (dk_at dksX1_years_0 20 rfl rfl)
theorem dX1_years_21 : decode cX1_years 21 = .ok (.getfield 35, 3) := dk_180 0 35 (dk_at dksX1_years_0 21 rfl rfl)
theorem dX1_years_24 : decode cX1_years 24 = .ok (.aload_n 0, 1) := dk_42 (dk_at dksX1_years_1 0 rfl rfl)
theorem dX1_years_25 : decode cX1_years 25 = .ok (.getfield 31, 3) := dk_180 0 31 (dk_at dksX1_years_1 1 rfl rfl)
theorem dX1_years_28 : decode cX1_years 28 = .ok (.invokevirtual 247, 3) := dk_182 0 247 (dk_at dksX1_years_1 4 rfl rfl)
theorem dX1_years_31 : decode cX1_years 31 = .ok (.pop, 1) := dk_87 (dk_at dksX1_years_1 7 rfl rfl)
theorem dX1_years_32 : decode cX1_years 32 = .ok (.iconst 0, 1) := dk_3 (dk_at dksX1_years_1 8 rfl rfl)
theorem dX1_years_33 : decode cX1_years 33 = .ok (.istore 4, 2) := dk_54 4 (dk_at dksX1_years_1 9 rfl rfl)
theorem dX1_years_35 : decode cX1_years 35 = .ok (.iload 4, 2) := dk_21 4 (dk_at dksX1_years_1 11 rfl rfl)
theorem dX1_years_37 : decode cX1_years 37 = .ok (.iload_n 2, 1) := dk_28 (dk_at dksX1_years_1 13 rfl rfl)
theorem dX1_years_38 : decode cX1_years 38 = .ok (.if_icmp .ge 21, 3) := dk_162 0 21 (dk_at dksX1_years_1 14 rfl rfl)
theorem dX1_years_41 : decode cX1_years 41 = .ok (.aload_n 0, 1) := dk_42 (dk_at dksX1_years_1 17 rfl rfl)
theorem dX1_years_42 : decode cX1_years 42 = .ok (.invokevirtual 321, 3) := dk_182 1 65 (dk_at dksX1_years_1 18 rfl rfl)
theorem dX1_years_45 : decode cX1_years 45 = .ok (.aload_n 0, 1) := dk_42 (dk_at dksX1_years_1 21 rfl rfl)
theorem dX1_years_46 : decode cX1_years 46 = .ok (.getfield 35, 3) := dk_180 0 35 (dk_at dksX1_years_2 0 rfl rfl)
theorem dX1_years_49 : decode cX1_years 49 = .ok (.invokevirtual 257, 3) := dk_182 1 1 (dk_at dksX1_years_2 3 rfl rfl)
theorem dX1_years_52 : decode cX1_years 52 = .ok (.pop, 1) := dk_87 (dk_at dksX1_years_2 6 rfl rfl)
theorem dX1_years_53 : decode cX1_years 53 = .ok (.iinc 4 1, 3) := dk_132 4 1 (dk_at dksX1_years_2 7 rfl rfl)
theorem dX1_years_56 : decode cX1_years 56 = .ok (.goto (-21), 3) := dk_167 255 235 (dk_at dksX1_years_2 10 rfl rfl)
theorem dX1_years_59 : decode cX1_years 59 = .ok (.iload_n 3, 1) := dk_29 (dk_at dksX1_years_2 13 rfl rfl)
theorem dX1_years_60 : decode cX1_years 60 = .ok (.ifCond .ne 16, 3) := dk_154 0 16 (dk_at dksX1_years_2 14 rfl rfl)
theorem dX1_years_63 : decode cX1_years 63 = .ok (.aload_n 0, 1) := dk_42 (dk_at dksX1_years_2 17 rfl rfl)
theorem dX1_years_64 : decode cX1_years 64 = .ok (.getfield 35, 3) := dk_180 0 35 (dk_at dksX1_years_2 18 rfl rfl)
theorem dX1_years_67 : decode cX1_years 67 = .ok (.invokevirtual 116, 3) := dk_182 0 116 (dk_at dksX1_years_2 21 rfl rfl)
theorem dX1_years_70 : decode cX1_years 70 = .ok (.invokestatic 263, 3) := dk_184 1 7 (dk_at dksX1_years_3 0 rfl rfl)
theorem dX1_years_73 : decode cX1_years 73 = .ok (.goto 39, 3) := dk_167 0 39 (dk_at dksX1_years_3 3 rfl rfl)
theorem dX1_years_76 : decode cX1_years 76 = .ok (.iload_n 3, 1) := dk_29 (dk_at dksX1_years_3 6 rfl rfl)
theorem dX1_years_77 : decode cX1_years 77 = .ok (.iconst 1, 1) := dk_4 (dk_at dksX1_years_3 7 rfl rfl)
theorem dX1_years_78 : decode cX1_years 78 = .ok (.if_icmp .ne 24, 3) := dk_160 0 24 (dk_at dksX1_years_3 8 rfl rfl)
theorem dX1_years_81 : decode cX1_years 81 = .ok (.aload_n 0, 1) := dk_42 (dk_at dksX1_years_3 11 rfl rfl)
theorem dX1_years_82 : decode cX1_years 82 = .ok (.getfield 22, 3) := dk_180 0 22 (dk_at dksX1_years_3 12 rfl rfl)
theorem dX1_years_85 : decode cX1_years 85 = .ok (.getfield 89, 3) := dk_180 0 89 (dk_at dksX1_years_3 15 rfl rfl)
theorem dX1_years_88 : decode cX1_years 88 = .ok (.aload_n 0, 1) := dk_42 (dk_at dksX1_years_3 18 rfl rfl)
theorem dX1_years_89 : decode cX1_years 89 = .ok (.getfield 35, 3) := dk_180 0 35 (dk_at dksX1_years_3 19 rfl rfl)
theorem dX1_years_92 : decode cX1_years 92 = .ok (.invokevirtual 110, 3) := dk_182 0 110 (dk_at dksX1_years_4 0 rfl rfl)
theorem dX1_years_95 : decode cX1_years 95 = .ok (.invokestatic 263, 3) := dk_184 1 7 (dk_at dksX1_years_4 3 rfl rfl)
theorem dX1_years_98 : decode cX1_years 98 = .ok (.isub, 1) := dk_100 (dk_at dksX1_years_4 6 rfl rfl)
theorem dX1_years_99 : decode cX1_years 99 = .ok (.goto 13, 3) := dk_167 0 13 (dk_at dksX1_years_4 7 rfl rfl)
theorem dX1_years_102 : decode cX1_years 102 = .ok (.aload_n 0, 1) := dk_42 (dk_at dksX1_years_4 10 rfl rfl)
theorem dX1_years_103 : decode cX1_years 103 = .ok (.getfield 35, 3) := dk_180 0 35 (dk_at dksX1_years_4 11 rfl rfl)
theorem dX1_years_106 : decode cX1_years 106 = .ok (.invokevirtual 113, 3) := dk_182 0 113 (dk_at dksX1_years_4 14 rfl rfl)
theorem dX1_years_109 : decode cX1_years 109 = .ok (.invokestatic 263, 3) := dk_184 1 7 (dk_at dksX1_years_4 17 rfl rfl)
theorem dX1_years_112 : decode cX1_years 112 = .ok (.ireturn, 1) := dk_172 (dk_at dksX1_years_4 20 rfl rfl)
abbrev cX1_befalls : ByteArray := prog_1_method_60_code
def yX1_befalls : MethodName := ⟨RX1, "befalls", "()V"⟩
def dkwX1_befalls_6 : List UInt8 := [79, 177]
abbrev dktX1_befalls_6 : List UInt8 := dkwX1_befalls_6 ++ []
def dkwX1_befalls_5 : List UInt8 := [180, 0, 35, 28, 182, 0, 236, 154, 0, 18, 42, 180, 0, 35, 180, 0, 137, 28, 92, 46, 4, 29, 120, 130]
abbrev dktX1_befalls_5 : List UInt8 := dkwX1_befalls_5 ++ dktX1_befalls_6
def dkwX1_befalls_4 : List UInt8 := [158, 0, 48, 42, 42, 180, 0, 22, 180, 0, 89, 182, 1, 62, 61, 42, 16, 8, 182, 1, 62, 62, 42]
abbrev dktX1_befalls_4 : List UInt8 := dkwX1_befalls_4 ++ dktX1_befalls_5
def dkwX1_befalls_3 : List UInt8 := [42, 180, 0, 35, 28, 29, 184, 1, 27, 182, 0, 233, 27, 5, 160, 0, 58, 42, 180, 0, 22, 180, 0, 89]
abbrev dktX1_befalls_3 : List UInt8 := dkwX1_befalls_3 ++ dktX1_befalls_4
def dkwX1_befalls_2 : List UInt8 := [182, 1, 62, 61, 42, 180, 0, 35, 42, 180, 0, 35, 28, 182, 0, 155, 182, 0, 197, 62, 29, 153, 0, 15]
abbrev dktX1_befalls_2 : List UInt8 := dkwX1_befalls_2 ++ dktX1_befalls_3
def dkwX1_befalls_1 : List UInt8 := [27, 4, 160, 0, 57, 42, 180, 0, 22, 182, 0, 92, 158, 0, 47, 42, 42, 180, 0, 22, 182, 0, 92]
abbrev dktX1_befalls_1 : List UInt8 := dkwX1_befalls_1 ++ dktX1_befalls_2
def dkwX1_befalls_0 : List UInt8 := [42, 16, 6, 182, 1, 62, 60, 27, 154, 0, 16, 42, 180, 0, 35, 42, 7, 182, 1, 62, 182, 0, 240, 87]
abbrev dktX1_befalls_0 : List UInt8 := dkwX1_befalls_0 ++ dktX1_befalls_1
theorem dksX1_befalls_0 : cX1_befalls.data.toList.drop 0 = dktX1_befalls_0 := by decide +kernel
theorem dksX1_befalls_1 : cX1_befalls.data.toList.drop 24 = dktX1_befalls_1 := dk_seg dksX1_befalls_0 24 rfl rfl
theorem dksX1_befalls_2 : cX1_befalls.data.toList.drop 47 = dktX1_befalls_2 := dk_seg dksX1_befalls_1 23 rfl rfl
theorem dksX1_befalls_3 : cX1_befalls.data.toList.drop 71 = dktX1_befalls_3 := dk_seg dksX1_befalls_2 24 rfl rfl
theorem dksX1_befalls_4 : cX1_befalls.data.toList.drop 95 = dktX1_befalls_4 := dk_seg dksX1_befalls_3 24 rfl rfl
theorem dksX1_befalls_5 : cX1_befalls.data.toList.drop 118 = dktX1_befalls_5 := dk_seg dksX1_befalls_4 23 rfl rfl
theorem dksX1_befalls_6 : cX1_befalls.data.toList.drop 142 = dktX1_befalls_6 := dk_seg dksX1_befalls_5 24 rfl rfl
theorem dX1_befalls_0 : decode cX1_befalls 0 = .ok (.aload_n 0, 1) := dk_42 (dk_at dksX1_befalls_0 0 rfl rfl)
theorem dX1_befalls_1 : decode cX1_befalls 1 = .ok (.bipush 6, 2) := dk_16 6 (dk_at dksX1_befalls_0 1 rfl rfl)
theorem dX1_befalls_3 : decode cX1_befalls 3 = .ok (.invokevirtual 318, 3) := dk_182 1 62 (dk_at dksX1_befalls_0 3 rfl rfl)
theorem dX1_befalls_6 : decode cX1_befalls 6 = .ok (.istore_n 1, 1) := dk_60 (dk_at dksX1_befalls_0 6 rfl rfl)
theorem dX1_befalls_7 : decode cX1_befalls 7 = .ok (.iload_n 1, 1) := dk_27 (dk_at dksX1_befalls_0 7 rfl rfl)
theorem dX1_befalls_8 : decode cX1_befalls 8 = .ok (.ifCond .ne 16, 3) := dk_154 0 16 (dk_at dksX1_befalls_0 8 rfl rfl)
theorem dX1_befalls_11 : decode cX1_befalls 11 = .ok (.aload_n 0, 1) := dk_42 (dk_at dksX1_befalls_0 11 rfl rfl)
theorem dX1_befalls_12 : decode cX1_befalls 12 = .ok (.getfield 35, 3) := dk_180 0 35 (dk_at dksX1_befalls_0 12 rfl rfl)
theorem dX1_befalls_15 : decode cX1_befalls 15 = .ok (.aload_n 0, 1) := dk_42 (dk_at dksX1_befalls_0 15 rfl rfl)
theorem dX1_befalls_16 : decode cX1_befalls 16 = .ok (.iconst 4, 1) := dk_7 (dk_at dksX1_befalls_0 16 rfl rfl)
theorem dX1_befalls_17 : decode cX1_befalls 17 = .ok (.invokevirtual 318, 3) := dk_182 1 62 (dk_at dksX1_befalls_0 17 rfl rfl)
theorem dX1_befalls_20 : decode cX1_befalls 20 = .ok (.invokevirtual 240, 3) := dk_182 0 240 (dk_at dksX1_befalls_0 20 rfl rfl)
theorem dX1_befalls_23 : decode cX1_befalls 23 = .ok (.pop, 1) := dk_87 (dk_at dksX1_befalls_0 23 rfl rfl)
theorem dX1_befalls_24 : decode cX1_befalls 24 = .ok (.iload_n 1, 1) := dk_27 (dk_at dksX1_befalls_1 0 rfl rfl)
theorem dX1_befalls_25 : decode cX1_befalls 25 = .ok (.iconst 1, 1) := dk_4 (dk_at dksX1_befalls_1 1 rfl rfl)
theorem dX1_befalls_26 : decode cX1_befalls 26 = .ok (.if_icmp .ne 57, 3) := dk_160 0 57 (dk_at dksX1_befalls_1 2 rfl rfl)
theorem dX1_befalls_29 : decode cX1_befalls 29 = .ok (.aload_n 0, 1) := dk_42 (dk_at dksX1_befalls_1 5 rfl rfl)
theorem dX1_befalls_30 : decode cX1_befalls 30 = .ok (.getfield 22, 3) := dk_180 0 22 (dk_at dksX1_befalls_1 6 rfl rfl)
theorem dX1_befalls_33 : decode cX1_befalls 33 = .ok (.invokevirtual 92, 3) := dk_182 0 92 (dk_at dksX1_befalls_1 9 rfl rfl)
theorem dX1_befalls_36 : decode cX1_befalls 36 = .ok (.ifCond .le 47, 3) := dk_158 0 47 (dk_at dksX1_befalls_1 12 rfl rfl)
theorem dX1_befalls_39 : decode cX1_befalls 39 = .ok (.aload_n 0, 1) := dk_42 (dk_at dksX1_befalls_1 15 rfl rfl)
theorem dX1_befalls_40 : decode cX1_befalls 40 = .ok (.aload_n 0, 1) := dk_42 (dk_at dksX1_befalls_1 16 rfl rfl)
theorem dX1_befalls_41 : decode cX1_befalls 41 = .ok (.getfield 22, 3) := dk_180 0 22 (dk_at dksX1_befalls_1 17 rfl rfl)
theorem dX1_befalls_44 : decode cX1_befalls 44 = .ok (.invokevirtual 92, 3) := dk_182 0 92 (dk_at dksX1_befalls_1 20 rfl rfl)
theorem dX1_befalls_47 : decode cX1_befalls 47 = .ok (.invokevirtual 318, 3) := dk_182 1 62 (dk_at dksX1_befalls_2 0 rfl rfl)
theorem dX1_befalls_50 : decode cX1_befalls 50 = .ok (.istore_n 2, 1) := dk_61 (dk_at dksX1_befalls_2 3 rfl rfl)
theorem dX1_befalls_51 : decode cX1_befalls 51 = .ok (.aload_n 0, 1) := dk_42 (dk_at dksX1_befalls_2 4 rfl rfl)
theorem dX1_befalls_52 : decode cX1_befalls 52 = .ok (.getfield 35, 3) := dk_180 0 35 (dk_at dksX1_befalls_2 5 rfl rfl)
theorem dX1_befalls_55 : decode cX1_befalls 55 = .ok (.aload_n 0, 1) := dk_42 (dk_at dksX1_befalls_2 8 rfl rfl)
theorem dX1_befalls_56 : decode cX1_befalls 56 = .ok (.getfield 35, 3) := dk_180 0 35 (dk_at dksX1_befalls_2 9 rfl rfl)
theorem dX1_befalls_59 : decode cX1_befalls 59 = .ok (.iload_n 2, 1) := dk_28 (dk_at dksX1_befalls_2 12 rfl rfl)
theorem dX1_befalls_60 : decode cX1_befalls 60 = .ok (.invokevirtual 155, 3) := dk_182 0 155 (dk_at dksX1_befalls_2 13 rfl rfl)
theorem dX1_befalls_63 : decode cX1_befalls 63 = .ok (.invokevirtual 197, 3) := dk_182 0 197 (dk_at dksX1_befalls_2 16 rfl rfl)
theorem dX1_befalls_66 : decode cX1_befalls 66 = .ok (.istore_n 3, 1) := dk_62 (dk_at dksX1_befalls_2 19 rfl rfl)
theorem dX1_befalls_67 : decode cX1_befalls 67 = .ok (.iload_n 3, 1) := dk_29 (dk_at dksX1_befalls_2 20 rfl rfl)
theorem dX1_befalls_68 : decode cX1_befalls 68 = .ok (.ifCond .eq 15, 3) := dk_153 0 15 (dk_at dksX1_befalls_2 21 rfl rfl)
theorem dX1_befalls_71 : decode cX1_befalls 71 = .ok (.aload_n 0, 1) := dk_42 (dk_at dksX1_befalls_3 0 rfl rfl)
theorem dX1_befalls_72 : decode cX1_befalls 72 = .ok (.getfield 35, 3) := dk_180 0 35 (dk_at dksX1_befalls_3 1 rfl rfl)
theorem dX1_befalls_75 : decode cX1_befalls 75 = .ok (.iload_n 2, 1) := dk_28 (dk_at dksX1_befalls_3 4 rfl rfl)
theorem dX1_befalls_76 : decode cX1_befalls 76 = .ok (.iload_n 3, 1) := dk_29 (dk_at dksX1_befalls_3 5 rfl rfl)
theorem dX1_befalls_77 : decode cX1_befalls 77 = .ok (.invokestatic 283, 3) := dk_184 1 27 (dk_at dksX1_befalls_3 6 rfl rfl)
theorem dX1_befalls_80 : decode cX1_befalls 80 = .ok (.invokevirtual 233, 3) := dk_182 0 233 (dk_at dksX1_befalls_3 9 rfl rfl)
theorem dX1_befalls_83 : decode cX1_befalls 83 = .ok (.iload_n 1, 1) := dk_27 (dk_at dksX1_befalls_3 12 rfl rfl)
theorem dX1_befalls_84 : decode cX1_befalls 84 = .ok (.iconst 2, 1) := dk_5 (dk_at dksX1_befalls_3 13 rfl rfl)
theorem dX1_befalls_85 : decode cX1_befalls 85 = .ok (.if_icmp .ne 58, 3) := dk_160 0 58 (dk_at dksX1_befalls_3 14 rfl rfl)
theorem dX1_befalls_88 : decode cX1_befalls 88 = .ok (.aload_n 0, 1) := dk_42 (dk_at dksX1_befalls_3 17 rfl rfl)
theorem dX1_befalls_89 : decode cX1_befalls 89 = .ok (.getfield 22, 3) := dk_180 0 22 (dk_at dksX1_befalls_3 18 rfl rfl)
theorem dX1_befalls_92 : decode cX1_befalls 92 = .ok (.getfield 89, 3) := dk_180 0 89 (dk_at dksX1_befalls_3 21 rfl rfl)
theorem dX1_befalls_95 : decode cX1_befalls 95 = .ok (.ifCond .le 48, 3) := dk_158 0 48 (dk_at dksX1_befalls_4 0 rfl rfl)
theorem dX1_befalls_98 : decode cX1_befalls 98 = .ok (.aload_n 0, 1) := dk_42 (dk_at dksX1_befalls_4 3 rfl rfl)
theorem dX1_befalls_99 : decode cX1_befalls 99 = .ok (.aload_n 0, 1) := dk_42 (dk_at dksX1_befalls_4 4 rfl rfl)
theorem dX1_befalls_100 : decode cX1_befalls 100 = .ok (.getfield 22, 3) := dk_180 0 22 (dk_at dksX1_befalls_4 5 rfl rfl)
theorem dX1_befalls_103 : decode cX1_befalls 103 = .ok (.getfield 89, 3) := dk_180 0 89 (dk_at dksX1_befalls_4 8 rfl rfl)
theorem dX1_befalls_106 : decode cX1_befalls 106 = .ok (.invokevirtual 318, 3) := dk_182 1 62 (dk_at dksX1_befalls_4 11 rfl rfl)
theorem dX1_befalls_109 : decode cX1_befalls 109 = .ok (.istore_n 2, 1) := dk_61 (dk_at dksX1_befalls_4 14 rfl rfl)
theorem dX1_befalls_110 : decode cX1_befalls 110 = .ok (.aload_n 0, 1) := dk_42 (dk_at dksX1_befalls_4 15 rfl rfl)
theorem dX1_befalls_111 : decode cX1_befalls 111 = .ok (.bipush 8, 2) := dk_16 8 (dk_at dksX1_befalls_4 16 rfl rfl)
theorem dX1_befalls_113 : decode cX1_befalls 113 = .ok (.invokevirtual 318, 3) := dk_182 1 62 (dk_at dksX1_befalls_4 18 rfl rfl)
theorem dX1_befalls_116 : decode cX1_befalls 116 = .ok (.istore_n 3, 1) := dk_62 (dk_at dksX1_befalls_4 21 rfl rfl)
theorem dX1_befalls_117 : decode cX1_befalls 117 = .ok (.aload_n 0, 1) := dk_42 (dk_at dksX1_befalls_4 22 rfl rfl)
theorem dX1_befalls_118 : decode cX1_befalls 118 = .ok (.getfield 35, 3) := dk_180 0 35 (dk_at dksX1_befalls_5 0 rfl rfl)
theorem dX1_befalls_121 : decode cX1_befalls 121 = .ok (.iload_n 2, 1) := dk_28 (dk_at dksX1_befalls_5 3 rfl rfl)
theorem dX1_befalls_122 : decode cX1_befalls 122 = .ok (.invokevirtual 236, 3) := dk_182 0 236 (dk_at dksX1_befalls_5 4 rfl rfl)
theorem dX1_befalls_125 : decode cX1_befalls 125 = .ok (.ifCond .ne 18, 3) := dk_154 0 18 (dk_at dksX1_befalls_5 7 rfl rfl)
theorem dX1_befalls_128 : decode cX1_befalls 128 = .ok (.aload_n 0, 1) := dk_42 (dk_at dksX1_befalls_5 10 rfl rfl)
theorem dX1_befalls_129 : decode cX1_befalls 129 = .ok (.getfield 35, 3) := dk_180 0 35 (dk_at dksX1_befalls_5 11 rfl rfl)
theorem dX1_befalls_132 : decode cX1_befalls 132 = .ok (.getfield 137, 3) := dk_180 0 137 (dk_at dksX1_befalls_5 14 rfl rfl)
theorem dX1_befalls_135 : decode cX1_befalls 135 = .ok (.iload_n 2, 1) := dk_28 (dk_at dksX1_befalls_5 17 rfl rfl)
theorem dX1_befalls_136 : decode cX1_befalls 136 = .ok (.dup2, 1) := dk_92 (dk_at dksX1_befalls_5 18 rfl rfl)
theorem dX1_befalls_137 : decode cX1_befalls 137 = .ok (.iaload, 1) := dk_46 (dk_at dksX1_befalls_5 19 rfl rfl)
theorem dX1_befalls_138 : decode cX1_befalls 138 = .ok (.iconst 1, 1) := dk_4 (dk_at dksX1_befalls_5 20 rfl rfl)
theorem dX1_befalls_139 : decode cX1_befalls 139 = .ok (.iload_n 3, 1) := dk_29 (dk_at dksX1_befalls_5 21 rfl rfl)
theorem dX1_befalls_140 : decode cX1_befalls 140 = .ok (.ishl, 1) := dk_120 (dk_at dksX1_befalls_5 22 rfl rfl)
theorem dX1_befalls_141 : decode cX1_befalls 141 = .ok (.ixor, 1) := dk_130 (dk_at dksX1_befalls_5 23 rfl rfl)
theorem dX1_befalls_142 : decode cX1_befalls 142 = .ok (.iastore, 1) := dk_79 (dk_at dksX1_befalls_6 0 rfl rfl)
theorem dX1_befalls_143 : decode cX1_befalls 143 = .ok (.return_, 1) := dk_177 (dk_at dksX1_befalls_6 1 rfl rfl)
abbrev cX1_draw : ByteArray := prog_1_method_59_code
def yX1_draw : MethodName := ⟨RX1, "draw", "(I)I"⟩
def dkwX1_draw_1 : List UInt8 := [17, 127, 255, 126, 27, 112, 172]
abbrev dktX1_draw_1 : List UInt8 := dkwX1_draw_1 ++ []
def dkwX1_draw_0 : List UInt8 := [42, 42, 180, 1, 58, 19, 1, 61, 104, 17, 48, 57, 96, 181, 1, 58, 42, 180, 1, 58, 16, 16, 122]
abbrev dktX1_draw_0 : List UInt8 := dkwX1_draw_0 ++ dktX1_draw_1
theorem dksX1_draw_0 : cX1_draw.data.toList.drop 0 = dktX1_draw_0 := by decide +kernel
theorem dksX1_draw_1 : cX1_draw.data.toList.drop 23 = dktX1_draw_1 := dk_seg dksX1_draw_0 23 rfl rfl
theorem dX1_draw_0 : decode cX1_draw 0 = .ok (.aload_n 0, 1) := dk_42 (dk_at dksX1_draw_0 0 rfl rfl)
theorem dX1_draw_1 : decode cX1_draw 1 = .ok (.aload_n 0, 1) := dk_42 (dk_at dksX1_draw_0 1 rfl rfl)
theorem dX1_draw_2 : decode cX1_draw 2 = .ok (.getfield 314, 3) := dk_180 1 58 (dk_at dksX1_draw_0 2 rfl rfl)
theorem dX1_draw_5 : decode cX1_draw 5 = .ok (.ldc_w 317, 3) := dk_19 1 61 (dk_at dksX1_draw_0 5 rfl rfl)
theorem dX1_draw_8 : decode cX1_draw 8 = .ok (.imul, 1) := dk_104 (dk_at dksX1_draw_0 8 rfl rfl)
theorem dX1_draw_9 : decode cX1_draw 9 = .ok (.sipush 12345, 3) := dk_17 48 57 (dk_at dksX1_draw_0 9 rfl rfl)
theorem dX1_draw_12 : decode cX1_draw 12 = .ok (.iadd, 1) := dk_96 (dk_at dksX1_draw_0 12 rfl rfl)
theorem dX1_draw_13 : decode cX1_draw 13 = .ok (.putfield 314, 3) := dk_181 1 58 (dk_at dksX1_draw_0 13 rfl rfl)
theorem dX1_draw_16 : decode cX1_draw 16 = .ok (.aload_n 0, 1) := dk_42 (dk_at dksX1_draw_0 16 rfl rfl)
theorem dX1_draw_17 : decode cX1_draw 17 = .ok (.getfield 314, 3) := dk_180 1 58 (dk_at dksX1_draw_0 17 rfl rfl)
theorem dX1_draw_20 : decode cX1_draw 20 = .ok (.bipush 16, 2) := dk_16 16 (dk_at dksX1_draw_0 20 rfl rfl)
theorem dX1_draw_22 : decode cX1_draw 22 = .ok (.ishr, 1) := dk_122 (dk_at dksX1_draw_0 22 rfl rfl)
theorem dX1_draw_23 : decode cX1_draw 23 = .ok (.sipush 32767, 3) := dk_17 127 255 (dk_at dksX1_draw_1 0 rfl rfl)
theorem dX1_draw_26 : decode cX1_draw 26 = .ok (.iand, 1) := dk_126 (dk_at dksX1_draw_1 3 rfl rfl)
theorem dX1_draw_27 : decode cX1_draw 27 = .ok (.iload_n 1, 1) := dk_27 (dk_at dksX1_draw_1 4 rfl rfl)
theorem dX1_draw_28 : decode cX1_draw 28 = .ok (.irem, 1) := dk_112 (dk_at dksX1_draw_1 5 rfl rfl)
theorem dX1_draw_29 : decode cX1_draw 29 = .ok (.ireturn, 1) := dk_172 (dk_at dksX1_draw_1 6 rfl rfl)
abbrev cX1_wisest : ByteArray := prog_1_method_62_code
def yX1_wisest : MethodName := ⟨RX1, "wisest", "(I)I"⟩
def dkwX1_wisest_3 : List UInt8 := [167, 255, 208, 28, 172]
abbrev dktX1_wisest_3 : List UInt8 := dkwX1_wisest_3 ++ []
def dkwX1_wisest_2 : List UInt8 := [184, 1, 7, 42, 180, 0, 35, 180, 0, 158, 28, 46, 184, 1, 7, 164, 0, 5, 29, 61, 132, 3, 1]
abbrev dktX1_wisest_2 : List UInt8 := dkwX1_wisest_2 ++ dktX1_wisest_3
def dkwX1_wisest_1 : List UInt8 := [180, 0, 22, 182, 0, 92, 162, 0, 43, 28, 2, 159, 0, 30, 42, 180, 0, 35, 180, 0, 158, 29, 46]
abbrev dktX1_wisest_1 : List UInt8 := dkwX1_wisest_1 ++ dktX1_wisest_2
def dkwX1_wisest_0 : List UInt8 := [27, 3, 16, 40, 184, 0, 122, 184, 0, 62, 42, 27, 182, 0, 251, 87, 2, 61, 3, 62, 29, 42]
abbrev dktX1_wisest_0 : List UInt8 := dkwX1_wisest_0 ++ dktX1_wisest_1
theorem dksX1_wisest_0 : cX1_wisest.data.toList.drop 0 = dktX1_wisest_0 := by decide +kernel
theorem dksX1_wisest_1 : cX1_wisest.data.toList.drop 22 = dktX1_wisest_1 := dk_seg dksX1_wisest_0 22 rfl rfl
theorem dksX1_wisest_2 : cX1_wisest.data.toList.drop 45 = dktX1_wisest_2 := dk_seg dksX1_wisest_1 23 rfl rfl
theorem dksX1_wisest_3 : cX1_wisest.data.toList.drop 68 = dktX1_wisest_3 := dk_seg dksX1_wisest_2 23 rfl rfl
theorem dX1_wisest_0 : decode cX1_wisest 0 = .ok (.iload_n 1, 1) := dk_27 (dk_at dksX1_wisest_0 0 rfl rfl)
theorem dX1_wisest_1 : decode cX1_wisest 1 = .ok (.iconst 0, 1) := dk_3 (dk_at dksX1_wisest_0 1 rfl rfl)
theorem dX1_wisest_2 : decode cX1_wisest 2 = .ok (.bipush 40, 2) := dk_16 40 (dk_at dksX1_wisest_0 2 rfl rfl)
theorem dX1_wisest_4 : decode cX1_wisest 4 = .ok (.invokestatic 122, 3) := dk_184 0 122 (dk_at dksX1_wisest_0 4 rfl rfl)
theorem dX1_wisest_7 : decode cX1_wisest 7 = .ok (.invokestatic 62, 3) := dk_184 0 62 (dk_at dksX1_wisest_0 7 rfl rfl)
theorem dX1_wisest_10 : decode cX1_wisest 10 = .ok (.aload_n 0, 1) := dk_42 (dk_at dksX1_wisest_0 10 rfl rfl)
theorem dX1_wisest_11 : decode cX1_wisest 11 = .ok (.iload_n 1, 1) := dk_27 (dk_at dksX1_wisest_0 11 rfl rfl)
theorem dX1_wisest_12 : decode cX1_wisest 12 = .ok (.invokevirtual 251, 3) := dk_182 0 251 (dk_at dksX1_wisest_0 12 rfl rfl)
theorem dX1_wisest_15 : decode cX1_wisest 15 = .ok (.pop, 1) := dk_87 (dk_at dksX1_wisest_0 15 rfl rfl)
theorem dX1_wisest_16 : decode cX1_wisest 16 = .ok (.iconst (-1), 1) := dk_2 (dk_at dksX1_wisest_0 16 rfl rfl)
theorem dX1_wisest_17 : decode cX1_wisest 17 = .ok (.istore_n 2, 1) := dk_61 (dk_at dksX1_wisest_0 17 rfl rfl)
theorem dX1_wisest_18 : decode cX1_wisest 18 = .ok (.iconst 0, 1) := dk_3 (dk_at dksX1_wisest_0 18 rfl rfl)
theorem dX1_wisest_19 : decode cX1_wisest 19 = .ok (.istore_n 3, 1) := dk_62 (dk_at dksX1_wisest_0 19 rfl rfl)
theorem dX1_wisest_20 : decode cX1_wisest 20 = .ok (.iload_n 3, 1) := dk_29 (dk_at dksX1_wisest_0 20 rfl rfl)
theorem dX1_wisest_21 : decode cX1_wisest 21 = .ok (.aload_n 0, 1) := dk_42 (dk_at dksX1_wisest_0 21 rfl rfl)
theorem dX1_wisest_22 : decode cX1_wisest 22 = .ok (.getfield 22, 3) := dk_180 0 22 (dk_at dksX1_wisest_1 0 rfl rfl)
theorem dX1_wisest_25 : decode cX1_wisest 25 = .ok (.invokevirtual 92, 3) := dk_182 0 92 (dk_at dksX1_wisest_1 3 rfl rfl)
theorem dX1_wisest_28 : decode cX1_wisest 28 = .ok (.if_icmp .ge 43, 3) := dk_162 0 43 (dk_at dksX1_wisest_1 6 rfl rfl)
theorem dX1_wisest_31 : decode cX1_wisest 31 = .ok (.iload_n 2, 1) := dk_28 (dk_at dksX1_wisest_1 9 rfl rfl)
theorem dX1_wisest_32 : decode cX1_wisest 32 = .ok (.iconst (-1), 1) := dk_2 (dk_at dksX1_wisest_1 10 rfl rfl)
theorem dX1_wisest_33 : decode cX1_wisest 33 = .ok (.if_icmp .eq 30, 3) := dk_159 0 30 (dk_at dksX1_wisest_1 11 rfl rfl)
theorem dX1_wisest_36 : decode cX1_wisest 36 = .ok (.aload_n 0, 1) := dk_42 (dk_at dksX1_wisest_1 14 rfl rfl)
theorem dX1_wisest_37 : decode cX1_wisest 37 = .ok (.getfield 35, 3) := dk_180 0 35 (dk_at dksX1_wisest_1 15 rfl rfl)
theorem dX1_wisest_40 : decode cX1_wisest 40 = .ok (.getfield 158, 3) := dk_180 0 158 (dk_at dksX1_wisest_1 18 rfl rfl)
theorem dX1_wisest_43 : decode cX1_wisest 43 = .ok (.iload_n 3, 1) := dk_29 (dk_at dksX1_wisest_1 21 rfl rfl)
theorem dX1_wisest_44 : decode cX1_wisest 44 = .ok (.iaload, 1) := dk_46 (dk_at dksX1_wisest_1 22 rfl rfl)
theorem dX1_wisest_45 : decode cX1_wisest 45 = .ok (.invokestatic 263, 3) := dk_184 1 7 (dk_at dksX1_wisest_2 0 rfl rfl)
theorem dX1_wisest_48 : decode cX1_wisest 48 = .ok (.aload_n 0, 1) := dk_42 (dk_at dksX1_wisest_2 3 rfl rfl)
theorem dX1_wisest_49 : decode cX1_wisest 49 = .ok (.getfield 35, 3) := dk_180 0 35 (dk_at dksX1_wisest_2 4 rfl rfl)
theorem dX1_wisest_52 : decode cX1_wisest 52 = .ok (.getfield 158, 3) := dk_180 0 158 (dk_at dksX1_wisest_2 7 rfl rfl)
theorem dX1_wisest_55 : decode cX1_wisest 55 = .ok (.iload_n 2, 1) := dk_28 (dk_at dksX1_wisest_2 10 rfl rfl)
theorem dX1_wisest_56 : decode cX1_wisest 56 = .ok (.iaload, 1) := dk_46 (dk_at dksX1_wisest_2 11 rfl rfl)
theorem dX1_wisest_57 : decode cX1_wisest 57 = .ok (.invokestatic 263, 3) := dk_184 1 7 (dk_at dksX1_wisest_2 12 rfl rfl)
theorem dX1_wisest_60 : decode cX1_wisest 60 = .ok (.if_icmp .le 5, 3) := dk_164 0 5 (dk_at dksX1_wisest_2 15 rfl rfl)
theorem dX1_wisest_63 : decode cX1_wisest 63 = .ok (.iload_n 3, 1) := dk_29 (dk_at dksX1_wisest_2 18 rfl rfl)
theorem dX1_wisest_64 : decode cX1_wisest 64 = .ok (.istore_n 2, 1) := dk_61 (dk_at dksX1_wisest_2 19 rfl rfl)
theorem dX1_wisest_65 : decode cX1_wisest 65 = .ok (.iinc 3 1, 3) := dk_132 3 1 (dk_at dksX1_wisest_2 20 rfl rfl)
theorem dX1_wisest_68 : decode cX1_wisest 68 = .ok (.goto (-48), 3) := dk_167 255 208 (dk_at dksX1_wisest_3 0 rfl rfl)
theorem dX1_wisest_71 : decode cX1_wisest 71 = .ok (.iload_n 2, 1) := dk_28 (dk_at dksX1_wisest_3 3 rfl rfl)
theorem dX1_wisest_72 : decode cX1_wisest 72 = .ok (.ireturn, 1) := dk_172 (dk_at dksX1_wisest_3 4 rfl rfl)
abbrev cX1_company : ByteArray := prog_1_method_63_code
def yX1_company : MethodName := ⟨RX1, "company", "(III)I"⟩
def dkwX1_company_3 : List UInt8 := [132, 4, 1, 132, 5, 1, 167, 255, 205, 21, 4, 172]
abbrev dktX1_company_3 : List UInt8 := dkwX1_company_3 ++ []
def dkwX1_company_2 : List UInt8 := [182, 1, 68, 42, 180, 0, 22, 28, 42, 180, 0, 31, 180, 0, 107, 21, 5, 96, 182, 1, 68, 160, 0, 6]
abbrev dktX1_company_2 : List UInt8 := dkwX1_company_2 ++ dktX1_company_3
def dkwX1_company_1 : List UInt8 := [54, 5, 21, 5, 29, 162, 0, 51, 42, 180, 0, 22, 27, 42, 180, 0, 31, 180, 0, 107, 21, 5, 96]
abbrev dktX1_company_1 : List UInt8 := dkwX1_company_1 ++ dktX1_company_2
def dkwX1_company_0 : List UInt8 := [42, 27, 182, 0, 152, 42, 28, 182, 0, 152, 29, 4, 16, 60, 184, 0, 122, 184, 0, 62, 3, 54, 4, 3]
abbrev dktX1_company_0 : List UInt8 := dkwX1_company_0 ++ dktX1_company_1
theorem dksX1_company_0 : cX1_company.data.toList.drop 0 = dktX1_company_0 := by decide +kernel
theorem dksX1_company_1 : cX1_company.data.toList.drop 24 = dktX1_company_1 := dk_seg dksX1_company_0 24 rfl rfl
theorem dksX1_company_2 : cX1_company.data.toList.drop 47 = dktX1_company_2 := dk_seg dksX1_company_1 23 rfl rfl
theorem dksX1_company_3 : cX1_company.data.toList.drop 71 = dktX1_company_3 := dk_seg dksX1_company_2 24 rfl rfl
theorem dX1_company_0 : decode cX1_company 0 = .ok (.aload_n 0, 1) := dk_42 (dk_at dksX1_company_0 0 rfl rfl)
theorem dX1_company_1 : decode cX1_company 1 = .ok (.iload_n 1, 1) := dk_27 (dk_at dksX1_company_0 1 rfl rfl)
theorem dX1_company_2 : decode cX1_company 2 = .ok (.invokevirtual 152, 3) := dk_182 0 152 (dk_at dksX1_company_0 2 rfl rfl)
theorem dX1_company_5 : decode cX1_company 5 = .ok (.aload_n 0, 1) := dk_42 (dk_at dksX1_company_0 5 rfl rfl)
theorem dX1_company_6 : decode cX1_company 6 = .ok (.iload_n 2, 1) := dk_28 (dk_at dksX1_company_0 6 rfl rfl)
theorem dX1_company_7 : decode cX1_company 7 = .ok (.invokevirtual 152, 3) := dk_182 0 152 (dk_at dksX1_company_0 7 rfl rfl)
theorem dX1_company_10 : decode cX1_company 10 = .ok (.iload_n 3, 1) := dk_29 (dk_at dksX1_company_0 10 rfl rfl)
theorem dX1_company_11 : decode cX1_company 11 = .ok (.iconst 1, 1) := dk_4 (dk_at dksX1_company_0 11 rfl rfl)
theorem dX1_company_12 : decode cX1_company 12 = .ok (.bipush 60, 2) := dk_16 60 (dk_at dksX1_company_0 12 rfl rfl)
theorem dX1_company_14 : decode cX1_company 14 = .ok (.invokestatic 122, 3) := dk_184 0 122 (dk_at dksX1_company_0 14 rfl rfl)
theorem dX1_company_17 : decode cX1_company 17 = .ok (.invokestatic 62, 3) := dk_184 0 62 (dk_at dksX1_company_0 17 rfl rfl)
theorem dX1_company_20 : decode cX1_company 20 = .ok (.iconst 0, 1) := dk_3 (dk_at dksX1_company_0 20 rfl rfl)
theorem dX1_company_21 : decode cX1_company 21 = .ok (.istore 4, 2) := dk_54 4 (dk_at dksX1_company_0 21 rfl rfl)
theorem dX1_company_23 : decode cX1_company 23 = .ok (.iconst 0, 1) := dk_3 (dk_at dksX1_company_0 23 rfl rfl)
theorem dX1_company_24 : decode cX1_company 24 = .ok (.istore 5, 2) := dk_54 5 (dk_at dksX1_company_1 0 rfl rfl)
theorem dX1_company_26 : decode cX1_company 26 = .ok (.iload 5, 2) := dk_21 5 (dk_at dksX1_company_1 2 rfl rfl)
theorem dX1_company_28 : decode cX1_company 28 = .ok (.iload_n 3, 1) := dk_29 (dk_at dksX1_company_1 4 rfl rfl)
theorem dX1_company_29 : decode cX1_company 29 = .ok (.if_icmp .ge 51, 3) := dk_162 0 51 (dk_at dksX1_company_1 5 rfl rfl)
theorem dX1_company_32 : decode cX1_company 32 = .ok (.aload_n 0, 1) := dk_42 (dk_at dksX1_company_1 8 rfl rfl)
theorem dX1_company_33 : decode cX1_company 33 = .ok (.getfield 22, 3) := dk_180 0 22 (dk_at dksX1_company_1 9 rfl rfl)
theorem dX1_company_36 : decode cX1_company 36 = .ok (.iload_n 1, 1) := dk_27 (dk_at dksX1_company_1 12 rfl rfl)
theorem dX1_company_37 : decode cX1_company 37 = .ok (.aload_n 0, 1) := dk_42 (dk_at dksX1_company_1 13 rfl rfl)
theorem dX1_company_38 : decode cX1_company 38 = .ok (.getfield 31, 3) := dk_180 0 31 (dk_at dksX1_company_1 14 rfl rfl)
theorem dX1_company_41 : decode cX1_company 41 = .ok (.getfield 107, 3) := dk_180 0 107 (dk_at dksX1_company_1 17 rfl rfl)
theorem dX1_company_44 : decode cX1_company 44 = .ok (.iload 5, 2) := dk_21 5 (dk_at dksX1_company_1 20 rfl rfl)
theorem dX1_company_46 : decode cX1_company 46 = .ok (.iadd, 1) := dk_96 (dk_at dksX1_company_1 22 rfl rfl)
theorem dX1_company_47 : decode cX1_company 47 = .ok (.invokevirtual 324, 3) := dk_182 1 68 (dk_at dksX1_company_2 0 rfl rfl)
theorem dX1_company_50 : decode cX1_company 50 = .ok (.aload_n 0, 1) := dk_42 (dk_at dksX1_company_2 3 rfl rfl)
theorem dX1_company_51 : decode cX1_company 51 = .ok (.getfield 22, 3) := dk_180 0 22 (dk_at dksX1_company_2 4 rfl rfl)
theorem dX1_company_54 : decode cX1_company 54 = .ok (.iload_n 2, 1) := dk_28 (dk_at dksX1_company_2 7 rfl rfl)
theorem dX1_company_55 : decode cX1_company 55 = .ok (.aload_n 0, 1) := dk_42 (dk_at dksX1_company_2 8 rfl rfl)
theorem dX1_company_56 : decode cX1_company 56 = .ok (.getfield 31, 3) := dk_180 0 31 (dk_at dksX1_company_2 9 rfl rfl)
theorem dX1_company_59 : decode cX1_company 59 = .ok (.getfield 107, 3) := dk_180 0 107 (dk_at dksX1_company_2 12 rfl rfl)
theorem dX1_company_62 : decode cX1_company 62 = .ok (.iload 5, 2) := dk_21 5 (dk_at dksX1_company_2 15 rfl rfl)
theorem dX1_company_64 : decode cX1_company 64 = .ok (.iadd, 1) := dk_96 (dk_at dksX1_company_2 17 rfl rfl)
theorem dX1_company_65 : decode cX1_company 65 = .ok (.invokevirtual 324, 3) := dk_182 1 68 (dk_at dksX1_company_2 18 rfl rfl)
theorem dX1_company_68 : decode cX1_company 68 = .ok (.if_icmp .ne 6, 3) := dk_160 0 6 (dk_at dksX1_company_2 21 rfl rfl)
theorem dX1_company_71 : decode cX1_company 71 = .ok (.iinc 4 1, 3) := dk_132 4 1 (dk_at dksX1_company_3 0 rfl rfl)
theorem dX1_company_74 : decode cX1_company 74 = .ok (.iinc 5 1, 3) := dk_132 5 1 (dk_at dksX1_company_3 3 rfl rfl)
theorem dX1_company_77 : decode cX1_company 77 = .ok (.goto (-51), 3) := dk_167 255 205 (dk_at dksX1_company_3 6 rfl rfl)
theorem dX1_company_80 : decode cX1_company 80 = .ok (.iload 4, 2) := dk_21 4 (dk_at dksX1_company_3 9 rfl rfl)
theorem dX1_company_82 : decode cX1_company 82 = .ok (.ireturn, 1) := dk_172 (dk_at dksX1_company_3 11 rfl rfl)
abbrev cX1_together : ByteArray := prog_1_method_64_code
def yX1_together : MethodName := ⟨RX1, "together", "(I)I"⟩
def dkwX1_together_3 : List UInt8 := [160, 0, 5, 28, 172, 132, 4, 1, 167, 255, 203, 132, 2, 1, 167, 255, 184, 2, 172]
abbrev dktX1_together_3 : List UInt8 := dkwX1_together_3 ++ []
def dkwX1_together_2 : List UInt8 := [180, 0, 107, 28, 96, 182, 1, 68, 54, 5, 45, 21, 5, 92, 46, 4, 96, 79, 45, 21, 5, 46, 27]
abbrev dktX1_together_2 : List UInt8 := dkwX1_together_2 ++ dktX1_together_3
def dkwX1_together_1 : List UInt8 := [54, 4, 21, 4, 42, 180, 0, 22, 182, 0, 92, 162, 0, 47, 42, 180, 0, 22, 21, 4, 42, 180, 0, 31]
abbrev dktX1_together_1 : List UInt8 := dkwX1_together_1 ++ dktX1_together_2
def dkwX1_together_0 : List UInt8 := [27, 4, 16, 6, 184, 0, 122, 184, 0, 62, 3, 61, 28, 16, 60, 163, 0, 72, 7, 188, 10, 78, 3]
abbrev dktX1_together_0 : List UInt8 := dkwX1_together_0 ++ dktX1_together_1
theorem dksX1_together_0 : cX1_together.data.toList.drop 0 = dktX1_together_0 := by decide +kernel
theorem dksX1_together_1 : cX1_together.data.toList.drop 23 = dktX1_together_1 := dk_seg dksX1_together_0 23 rfl rfl
theorem dksX1_together_2 : cX1_together.data.toList.drop 47 = dktX1_together_2 := dk_seg dksX1_together_1 24 rfl rfl
theorem dksX1_together_3 : cX1_together.data.toList.drop 70 = dktX1_together_3 := dk_seg dksX1_together_2 23 rfl rfl
theorem dX1_together_0 : decode cX1_together 0 = .ok (.iload_n 1, 1) := dk_27 (dk_at dksX1_together_0 0 rfl rfl)
theorem dX1_together_1 : decode cX1_together 1 = .ok (.iconst 1, 1) := dk_4 (dk_at dksX1_together_0 1 rfl rfl)
theorem dX1_together_2 : decode cX1_together 2 = .ok (.bipush 6, 2) := dk_16 6 (dk_at dksX1_together_0 2 rfl rfl)
theorem dX1_together_4 : decode cX1_together 4 = .ok (.invokestatic 122, 3) := dk_184 0 122 (dk_at dksX1_together_0 4 rfl rfl)
theorem dX1_together_7 : decode cX1_together 7 = .ok (.invokestatic 62, 3) := dk_184 0 62 (dk_at dksX1_together_0 7 rfl rfl)
theorem dX1_together_10 : decode cX1_together 10 = .ok (.iconst 0, 1) := dk_3 (dk_at dksX1_together_0 10 rfl rfl)
theorem dX1_together_11 : decode cX1_together 11 = .ok (.istore_n 2, 1) := dk_61 (dk_at dksX1_together_0 11 rfl rfl)
theorem dX1_together_12 : decode cX1_together 12 = .ok (.iload_n 2, 1) := dk_28 (dk_at dksX1_together_0 12 rfl rfl)
theorem dX1_together_13 : decode cX1_together 13 = .ok (.bipush 60, 2) := dk_16 60 (dk_at dksX1_together_0 13 rfl rfl)
theorem dX1_together_15 : decode cX1_together 15 = .ok (.if_icmp .gt 72, 3) := dk_163 0 72 (dk_at dksX1_together_0 15 rfl rfl)
theorem dX1_together_18 : decode cX1_together 18 = .ok (.iconst 4, 1) := dk_7 (dk_at dksX1_together_0 18 rfl rfl)
theorem dX1_together_19 : decode cX1_together 19 = .ok (.newarray .int, 2) := dk_188_10 (dk_at dksX1_together_0 19 rfl rfl)
theorem dX1_together_21 : decode cX1_together 21 = .ok (.astore_n 3, 1) := dk_78 (dk_at dksX1_together_0 21 rfl rfl)
theorem dX1_together_22 : decode cX1_together 22 = .ok (.iconst 0, 1) := dk_3 (dk_at dksX1_together_0 22 rfl rfl)
theorem dX1_together_23 : decode cX1_together 23 = .ok (.istore 4, 2) := dk_54 4 (dk_at dksX1_together_1 0 rfl rfl)
theorem dX1_together_25 : decode cX1_together 25 = .ok (.iload 4, 2) := dk_21 4 (dk_at dksX1_together_1 2 rfl rfl)
theorem dX1_together_27 : decode cX1_together 27 = .ok (.aload_n 0, 1) := dk_42 (dk_at dksX1_together_1 4 rfl rfl)
theorem dX1_together_28 : decode cX1_together 28 = .ok (.getfield 22, 3) := dk_180 0 22 (dk_at dksX1_together_1 5 rfl rfl)
theorem dX1_together_31 : decode cX1_together 31 = .ok (.invokevirtual 92, 3) := dk_182 0 92 (dk_at dksX1_together_1 8 rfl rfl)
theorem dX1_together_34 : decode cX1_together 34 = .ok (.if_icmp .ge 47, 3) := dk_162 0 47 (dk_at dksX1_together_1 11 rfl rfl)
theorem dX1_together_37 : decode cX1_together 37 = .ok (.aload_n 0, 1) := dk_42 (dk_at dksX1_together_1 14 rfl rfl)
theorem dX1_together_38 : decode cX1_together 38 = .ok (.getfield 22, 3) := dk_180 0 22 (dk_at dksX1_together_1 15 rfl rfl)
theorem dX1_together_41 : decode cX1_together 41 = .ok (.iload 4, 2) := dk_21 4 (dk_at dksX1_together_1 18 rfl rfl)
theorem dX1_together_43 : decode cX1_together 43 = .ok (.aload_n 0, 1) := dk_42 (dk_at dksX1_together_1 20 rfl rfl)
theorem dX1_together_44 : decode cX1_together 44 = .ok (.getfield 31, 3) := dk_180 0 31 (dk_at dksX1_together_1 21 rfl rfl)
theorem dX1_together_47 : decode cX1_together 47 = .ok (.getfield 107, 3) := dk_180 0 107 (dk_at dksX1_together_2 0 rfl rfl)
theorem dX1_together_50 : decode cX1_together 50 = .ok (.iload_n 2, 1) := dk_28 (dk_at dksX1_together_2 3 rfl rfl)
theorem dX1_together_51 : decode cX1_together 51 = .ok (.iadd, 1) := dk_96 (dk_at dksX1_together_2 4 rfl rfl)
theorem dX1_together_52 : decode cX1_together 52 = .ok (.invokevirtual 324, 3) := dk_182 1 68 (dk_at dksX1_together_2 5 rfl rfl)
theorem dX1_together_55 : decode cX1_together 55 = .ok (.istore 5, 2) := dk_54 5 (dk_at dksX1_together_2 8 rfl rfl)
theorem dX1_together_57 : decode cX1_together 57 = .ok (.aload_n 3, 1) := dk_45 (dk_at dksX1_together_2 10 rfl rfl)
theorem dX1_together_58 : decode cX1_together 58 = .ok (.iload 5, 2) := dk_21 5 (dk_at dksX1_together_2 11 rfl rfl)
theorem dX1_together_60 : decode cX1_together 60 = .ok (.dup2, 1) := dk_92 (dk_at dksX1_together_2 13 rfl rfl)
theorem dX1_together_61 : decode cX1_together 61 = .ok (.iaload, 1) := dk_46 (dk_at dksX1_together_2 14 rfl rfl)
theorem dX1_together_62 : decode cX1_together 62 = .ok (.iconst 1, 1) := dk_4 (dk_at dksX1_together_2 15 rfl rfl)
theorem dX1_together_63 : decode cX1_together 63 = .ok (.iadd, 1) := dk_96 (dk_at dksX1_together_2 16 rfl rfl)
theorem dX1_together_64 : decode cX1_together 64 = .ok (.iastore, 1) := dk_79 (dk_at dksX1_together_2 17 rfl rfl)
theorem dX1_together_65 : decode cX1_together 65 = .ok (.aload_n 3, 1) := dk_45 (dk_at dksX1_together_2 18 rfl rfl)
theorem dX1_together_66 : decode cX1_together 66 = .ok (.iload 5, 2) := dk_21 5 (dk_at dksX1_together_2 19 rfl rfl)
theorem dX1_together_68 : decode cX1_together 68 = .ok (.iaload, 1) := dk_46 (dk_at dksX1_together_2 21 rfl rfl)
theorem dX1_together_69 : decode cX1_together 69 = .ok (.iload_n 1, 1) := dk_27 (dk_at dksX1_together_2 22 rfl rfl)
theorem dX1_together_70 : decode cX1_together 70 = .ok (.if_icmp .ne 5, 3) := dk_160 0 5 (dk_at dksX1_together_3 0 rfl rfl)
theorem dX1_together_73 : decode cX1_together 73 = .ok (.iload_n 2, 1) := dk_28 (dk_at dksX1_together_3 3 rfl rfl)
theorem dX1_together_74 : decode cX1_together 74 = .ok (.ireturn, 1) := dk_172 (dk_at dksX1_together_3 4 rfl rfl)
theorem dX1_together_75 : decode cX1_together 75 = .ok (.iinc 4 1, 3) := dk_132 4 1 (dk_at dksX1_together_3 5 rfl rfl)
theorem dX1_together_78 : decode cX1_together 78 = .ok (.goto (-53), 3) := dk_167 255 203 (dk_at dksX1_together_3 8 rfl rfl)
theorem dX1_together_81 : decode cX1_together 81 = .ok (.iinc 2 1, 3) := dk_132 2 1 (dk_at dksX1_together_3 11 rfl rfl)
theorem dX1_together_84 : decode cX1_together 84 = .ok (.goto (-72), 3) := dk_167 255 184 (dk_at dksX1_together_3 14 rfl rfl)
theorem dX1_together_87 : decode cX1_together 87 = .ok (.iconst (-1), 1) := dk_2 (dk_at dksX1_together_3 17 rfl rfl)
theorem dX1_together_88 : decode cX1_together 88 = .ok (.ireturn, 1) := dk_172 (dk_at dksX1_together_3 18 rfl rfl)
