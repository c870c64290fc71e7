/-! TwinInkModel -/
set_option maxRecDepth 100000
def RX4 : String := "TwinInkModel"
def TX4 : u_T := fun k => match k with
  | 0 => ("TwinInkModel", "thrown", "I", false)
  | 1 => ("TwinInkModel", "sheets", "I", false)
  | 2 => ("TwinInkModel", "clerks", "I", false)
  | 3 => ("TwinInkModel", "words", "I", false)
  | 4 => ("TwinInkModel", "slack", "I", false)
  | 5 => ("TwinInkModel", "laysAt", "I", false)
  | 6 => ("TwinInkModel", "mouldsAt", "I", false)
  | 7 => ("TwinInkModel", "round", "[I", true)
  | 8 => ("TwinInkModel", "roundLong", "[I", true)
  | 9 => ("TwinInkModel", "wordLeft", "[I", true)
  | 10 => ("TwinInkModel", "wordRight", "[I", true)
  | 11 => ("TwinInkModel", "code", "[I", true)
  | 12 => ("TwinInkModel", "tape", "[I", true)
  | 13 => ("TwinInkModel", "taped", "I", false)
  | 14 => ("TwinInkModel", "faultKind", "I", false)
  | 15 => ("TwinInkModel", "faultPlace", "I", false)
  | 16 => ("TwinInkModel", "refused", "[I", true)
  | 17 => ("TwinInkModel", "long1", "I", false)
  | 18 => ("TwinInkModel", "next0", "I", false)
  | 19 => ("TwinInkModel", "sort", "I", false)
  | 20 => ("TwinInkModel", "place", "I", false)
  | 21 => ("TwinInkModel", "long0", "I", false)
  | 22 => ("TwinInkModel", "value", "I", false)
  | 23 => ("TwinInkModel", "sign", "I", false)
  | 24 => ("TwinInkModel", "word0", "J", false)
  | 25 => ("TwinInkModel", "newSheets", "I", false)
  | 26 => ("TwinInkModel", "newClerks", "I", false)
  | 27 => ("TwinInkModel", "newWords", "I", false)
  | 28 => ("TwinInkModel", "newSlack", "I", false)
  | 29 => ("TwinInkModel", "newLaysAt", "I", false)
  | 30 => ("TwinInkModel", "newMouldsAt", "I", false)
  | 31 => ("TwinInkModel", "top", "I", false)
  | 32 => ("TwinInkModel", "firstValue", "I", false)
  | 33 => ("TwinInkModel", "lastValue", "I", false)
  | 34 => ("TwinInkModel", "waiting", "I", false)
  | 35 => ("TwinInkModel", "depth", "I", false)
  | 36 => ("TwinInkModel", "newRound", "[I", true)
  | 37 => ("TwinInkModel", "newRoundLong", "[I", true)
  | 38 => ("TwinInkModel", "newWordLeft", "[I", true)
  | 39 => ("TwinInkModel", "newWordRight", "[I", true)
  | 40 => ("TwinInkModel", "newRow", "[I", true)
  | 41 => ("TwinInkModel", "readCode", "[I", true)
  | 42 => ("TwinInkModel", "waits", "[I", true)
  | 43 => ("TwinInkModel", "tested", "[Z", true)
  | 44 => ("TwinInkModel", "rows", "[I", true)
  | 45 => ("TwinInkModel", "ahead", "[I", true)
  | 46 => ("TwinInkModel", "acts", "I", false)
  | 47 => ("TwinInkModel", "told", "[I", true)
  | 48 => ("TwinInkModel", "pile", "[I", true)
  | 49 => ("TwinInkModel", "couplesOf", "[I", true)
  | 50 => ("TwinInkModel", "moreOf", "[I", true)
  | 51 => ("TwinInkModel", "heardMany", "I", false)
  | 52 => ("TwinInkModel", "heard", "[I", true)
  | 53 => ("TwinInkModel", "soon", "[I", true)
  | 54 => ("TwinInkModel", "soonAll", "[I", true)
  | 55 => ("TwinInkModel", "its0", "I", false)
  | 56 => ("TwinInkModel", "hasImage", "Z", false)
  | 57 => ("TwinInkModel", "imageActs", "I", false)
  | 58 => ("TwinInkModel", "imageHeard", "I", false)
  | 59 => ("TwinInkModel", "imageRow", "[I", true)
  | 60 => ("TwinInkModel", "imageAhead", "[I", true)
  | _ => ("TwinInkModel", "imageHears", "[I", true)
def tyX4 : Nat → FieldType := fun k => match k with
  | 0 => .int
  | 1 => .int
  | 2 => .int
  | 3 => .int
  | 4 => .int
  | 5 => .int
  | 6 => .int
  | 7 => .array .int
  | 8 => .array .int
  | 9 => .array .int
  | 10 => .array .int
  | 11 => .array .int
  | 12 => .array .int
  | 13 => .int
  | 14 => .int
  | 15 => .int
  | 16 => .array .int
  | 17 => .int
  | 18 => .int
  | 19 => .int
  | 20 => .int
  | 21 => .int
  | 22 => .int
  | 23 => .int
  | 24 => .long
  | 25 => .int
  | 26 => .int
  | 27 => .int
  | 28 => .int
  | 29 => .int
  | 30 => .int
  | 31 => .int
  | 32 => .int
  | 33 => .int
  | 34 => .int
  | 35 => .int
  | 36 => .array .int
  | 37 => .array .int
  | 38 => .array .int
  | 39 => .array .int
  | 40 => .array .int
  | 41 => .array .int
  | 42 => .array .int
  | 43 => .array .boolean
  | 44 => .array .int
  | 45 => .array .int
  | 46 => .int
  | 47 => .array .int
  | 48 => .array .int
  | 49 => .array .int
  | 50 => .array .int
  | 51 => .int
  | 52 => .array .int
  | 53 => .array .int
  | 54 => .array .int
  | 55 => .int
  | 56 => .boolean
  | 57 => .int
  | 58 => .int
  | 59 => .array .int
  | 60 => .array .int
  | _ => .array .int
abbrev wsX40 : List Cond := u_ws RX4 TX4 62
set_option maxRecDepth 100000 in
theorem nmX4 : ∀ a, a < 62 → ∀ b, b < 62 → a ≠ b → (TX4 a).2.1 ≠ (TX4 b).2.1 := by decide +kernel
set_option maxRecDepth 100000 in
theorem tyX4_ok : ∀ k, k < 62 → parseFieldDescriptor (TX4 k).2.2.1 = some (tyX4 k) := by decide +kernel
abbrev cX4_init : ByteArray := prog_12_method_1_code
def yX4_init : MethodName := ⟨RX4, "<init>", "()V"⟩
def dkwX4_init_10 : List UInt8 := [181, 0, 96, 42, 16, 32, 188, 10, 181, 0, 99, 177]
abbrev dktX4_init_10 : List UInt8 := dkwX4_init_10 ++ []
def dkwX4_init_9 : List UInt8 := [42, 17, 1, 68, 188, 10, 181, 0, 90, 42, 16, 34, 188, 10, 181, 0, 93, 42, 17, 5, 80, 188, 10]
abbrev dktX4_init_9 : List UInt8 := dkwX4_init_9 ++ dktX4_init_10
def dkwX4_init_8 : List UInt8 := [17, 20, 0, 188, 10, 181, 0, 81, 42, 16, 32, 188, 10, 181, 0, 84, 42, 16, 6, 188, 10, 181, 0, 87]
abbrev dktX4_init_8 : List UInt8 := dkwX4_init_8 ++ dktX4_init_9
def dkwX4_init_7 : List UInt8 := [188, 10, 181, 0, 72, 42, 17, 3, 182, 188, 10, 181, 0, 75, 42, 17, 2, 0, 188, 10, 181, 0, 78, 42]
abbrev dktX4_init_7 : List UInt8 := dkwX4_init_7 ++ dktX4_init_8
def dkwX4_init_6 : List UInt8 := [181, 0, 62, 42, 16, 68, 188, 10, 181, 0, 66, 42, 17, 5, 80, 188, 10, 181, 0, 69, 42, 16, 9]
abbrev dktX4_init_6 : List UInt8 := dkwX4_init_6 ++ dktX4_init_7
def dkwX4_init_5 : List UInt8 := [17, 5, 120, 188, 10, 181, 0, 56, 42, 17, 3, 182, 188, 10, 181, 0, 59, 42, 16, 9, 188, 4]
abbrev dktX4_init_5 : List UInt8 := dkwX4_init_5 ++ dktX4_init_6
def dkwX4_init_4 : List UInt8 := [188, 10, 181, 0, 47, 42, 16, 12, 188, 10, 181, 0, 50, 42, 16, 34, 188, 10, 181, 0, 53, 42]
abbrev dktX4_init_4 : List UInt8 := dkwX4_init_4 ++ dktX4_init_5
def dkwX4_init_3 : List UInt8 := [188, 10, 181, 0, 38, 42, 16, 36, 188, 10, 181, 0, 41, 42, 16, 6, 188, 10, 181, 0, 44, 42, 16, 12]
abbrev dktX4_init_3 : List UInt8 := dkwX4_init_3 ++ dktX4_init_4
def dkwX4_init_2 : List UInt8 := [17, 5, 120, 188, 10, 181, 0, 29, 42, 17, 2, 188, 188, 10, 181, 0, 32, 42, 2, 181, 0, 35, 42, 6]
abbrev dktX4_init_2 : List UInt8 := dkwX4_init_2 ++ dktX4_init_3
def dkwX4_init_1 : List UInt8 := [16, 6, 188, 10, 181, 0, 20, 42, 16, 12, 188, 10, 181, 0, 23, 42, 16, 12, 188, 10, 181, 0, 26, 42]
abbrev dktX4_init_1 : List UInt8 := dkwX4_init_1 ++ dktX4_init_2
def dkwX4_init_0 : List UInt8 := [42, 183, 0, 1, 42, 2, 181, 0, 9, 42, 2, 181, 0, 13, 42, 16, 36, 188, 10, 181, 0, 16, 42]
abbrev dktX4_init_0 : List UInt8 := dkwX4_init_0 ++ dktX4_init_1
theorem dksX4_init_0 : cX4_init.data.toList.drop 0 = dktX4_init_0 := by decide +kernel
theorem dksX4_init_1 : cX4_init.data.toList.drop 23 = dktX4_init_1 := dk_seg dksX4_init_0 23 rfl rfl
theorem dksX4_init_2 : cX4_init.data.toList.drop 47 = dktX4_init_2 := dk_seg dksX4_init_1 24 rfl rfl
theorem dksX4_init_3 : cX4_init.data.toList.drop 71 = dktX4_init_3 := dk_seg dksX4_init_2 24 rfl rfl
theorem dksX4_init_4 : cX4_init.data.toList.drop 95 = dktX4_init_4 := dk_seg dksX4_init_3 24 rfl rfl
theorem dksX4_init_5 : cX4_init.data.toList.drop 117 = dktX4_init_5 := dk_seg dksX4_init_4 22 rfl rfl
theorem dksX4_init_6 : cX4_init.data.toList.drop 139 = dktX4_init_6 := dk_seg dksX4_init_5 22 rfl rfl
theorem dksX4_init_7 : cX4_init.data.toList.drop 162 = dktX4_init_7 := dk_seg dksX4_init_6 23 rfl rfl
theorem dksX4_init_8 : cX4_init.data.toList.drop 186 = dktX4_init_8 := dk_seg dksX4_init_7 24 rfl rfl
theorem dksX4_init_9 : cX4_init.data.toList.drop 210 = dktX4_init_9 := dk_seg dksX4_init_8 24 rfl rfl
theorem dksX4_init_10 : cX4_init.data.toList.drop 233 = dktX4_init_10 := dk_seg dksX4_init_9 23 rfl rfl
theorem dX4_init_0 : decode cX4_init 0 = .ok (.aload_n 0, 1) := dk_42 (dk_at dksX4_init_0 0 rfl rfl)
theorem dX4_init_1 : decode cX4_init 1 = .ok (.invokespecial 1, 3) := dk_183 0 1 (dk_at dksX4_init_0 1 rfl rfl)
theorem dX4_init_4 : decode cX4_init 4 = .ok (.aload_n 0, 1) := dk_42 (dk_at dksX4_init_0 4 rfl rfl)
theorem dX4_init_5 : decode cX4_init 5 = .ok (.iconst (-1), 1) := dk_2 (dk_at dksX4_init_0 5 rfl rfl)
theorem dX4_init_6 : decode cX4_init 6 = .ok (.putfield 9, 3) := dk_181 0 9 (dk_at dksX4_init_0 6 rfl rfl)
theorem dX4_init_9 : decode cX4_init 9 = .ok (.aload_n 0, 1) := dk_42 (dk_at dksX4_init_0 9 rfl rfl)
theorem dX4_init_10 : decode cX4_init 10 = .ok (.iconst (-1), 1) := dk_2 (dk_at dksX4_init_0 10 rfl rfl)
theorem dX4_init_11 : decode cX4_init 11 = .ok (.putfield 13, 3) := dk_181 0 13 (dk_at dksX4_init_0 11 rfl rfl)
theorem dX4_init_14 : decode cX4_init 14 = .ok (.aload_n 0, 1) := dk_42 (dk_at dksX4_init_0 14 rfl rfl)
theorem dX4_init_15 : decode cX4_init 15 = .ok (.bipush 36, 2) := dk_16 36 (dk_at dksX4_init_0 15 rfl rfl)
theorem dX4_init_17 : decode cX4_init 17 = .ok (.newarray .int, 2) := dk_188_10 (dk_at dksX4_init_0 17 rfl rfl)
theorem dX4_init_19 : decode cX4_init 19 = .ok (.putfield 16, 3) := dk_181 0 16 (dk_at dksX4_init_0 19 rfl rfl)
theorem dX4_init_22 : decode cX4_init 22 = .ok (.aload_n 0, 1) := dk_42 (dk_at dksX4_init_0 22 rfl rfl)
theorem dX4_init_23 : decode cX4_init 23 = .ok (.bipush 6, 2) := dk_16 6 (dk_at dksX4_init_1 0 rfl rfl)
theorem dX4_init_25 : decode cX4_init 25 = .ok (.newarray .int, 2) := dk_188_10 (dk_at dksX4_init_1 2 rfl rfl)
theorem dX4_init_27 : decode cX4_init 27 = .ok (.putfield 20, 3) := dk_181 0 20 (dk_at dksX4_init_1 4 rfl rfl)
theorem dX4_init_30 : decode cX4_init 30 = .ok (.aload_n 0, 1) := dk_42 (dk_at dksX4_init_1 7 rfl rfl)
theorem dX4_init_31 : decode cX4_init 31 = .ok (.bipush 12, 2) := dk_16 12 (dk_at dksX4_init_1 8 rfl rfl)
theorem dX4_init_33 : decode cX4_init 33 = .ok (.newarray .int, 2) := dk_188_10 (dk_at dksX4_init_1 10 rfl rfl)
theorem dX4_init_35 : decode cX4_init 35 = .ok (.putfield 23, 3) := dk_181 0 23 (dk_at dksX4_init_1 12 rfl rfl)
theorem dX4_init_38 : decode cX4_init 38 = .ok (.aload_n 0, 1) := dk_42 (dk_at dksX4_init_1 15 rfl rfl)
theorem dX4_init_39 : decode cX4_init 39 = .ok (.bipush 12, 2) := dk_16 12 (dk_at dksX4_init_1 16 rfl rfl)
theorem dX4_init_41 : decode cX4_init 41 = .ok (.newarray .int, 2) := dk_188_10 (dk_at dksX4_init_1 18 rfl rfl)
theorem dX4_init_43 : decode cX4_init 43 = .ok (.putfield 26, 3) := dk_181 0 26 (dk_at dksX4_init_1 20 rfl rfl)
theorem dX4_init_46 : decode cX4_init 46 = .ok (.aload_n 0, 1) := dk_42 (dk_at dksX4_init_1 23 rfl rfl)
theorem dX4_init_47 : decode cX4_init 47 = .ok (.sipush 1400, 3) := dk_17 5 120 (dk_at dksX4_init_2 0 rfl rfl)
theorem dX4_init_50 : decode cX4_init 50 = .ok (.newarray .int, 2) := dk_188_10 (dk_at dksX4_init_2 3 rfl rfl)
theorem dX4_init_52 : decode cX4_init 52 = .ok (.putfield 29, 3) := dk_181 0 29 (dk_at dksX4_init_2 5 rfl rfl)
theorem dX4_init_55 : decode cX4_init 55 = .ok (.aload_n 0, 1) := dk_42 (dk_at dksX4_init_2 8 rfl rfl)
theorem dX4_init_56 : decode cX4_init 56 = .ok (.sipush 700, 3) := dk_17 2 188 (dk_at dksX4_init_2 9 rfl rfl)
theorem dX4_init_59 : decode cX4_init 59 = .ok (.newarray .int, 2) := dk_188_10 (dk_at dksX4_init_2 12 rfl rfl)
theorem dX4_init_61 : decode cX4_init 61 = .ok (.putfield 32, 3) := dk_181 0 32 (dk_at dksX4_init_2 14 rfl rfl)
theorem dX4_init_64 : decode cX4_init 64 = .ok (.aload_n 0, 1) := dk_42 (dk_at dksX4_init_2 17 rfl rfl)
theorem dX4_init_65 : decode cX4_init 65 = .ok (.iconst (-1), 1) := dk_2 (dk_at dksX4_init_2 18 rfl rfl)
theorem dX4_init_66 : decode cX4_init 66 = .ok (.putfield 35, 3) := dk_181 0 35 (dk_at dksX4_init_2 19 rfl rfl)
theorem dX4_init_69 : decode cX4_init 69 = .ok (.aload_n 0, 1) := dk_42 (dk_at dksX4_init_2 22 rfl rfl)
theorem dX4_init_70 : decode cX4_init 70 = .ok (.iconst 3, 1) := dk_6 (dk_at dksX4_init_2 23 rfl rfl)
theorem dX4_init_71 : decode cX4_init 71 = .ok (.newarray .int, 2) := dk_188_10 (dk_at dksX4_init_3 0 rfl rfl)
theorem dX4_init_73 : decode cX4_init 73 = .ok (.putfield 38, 3) := dk_181 0 38 (dk_at dksX4_init_3 2 rfl rfl)
theorem dX4_init_76 : decode cX4_init 76 = .ok (.aload_n 0, 1) := dk_42 (dk_at dksX4_init_3 5 rfl rfl)
theorem dX4_init_77 : decode cX4_init 77 = .ok (.bipush 36, 2) := dk_16 36 (dk_at dksX4_init_3 6 rfl rfl)
theorem dX4_init_79 : decode cX4_init 79 = .ok (.newarray .int, 2) := dk_188_10 (dk_at dksX4_init_3 8 rfl rfl)
theorem dX4_init_81 : decode cX4_init 81 = .ok (.putfield 41, 3) := dk_181 0 41 (dk_at dksX4_init_3 10 rfl rfl)
theorem dX4_init_84 : decode cX4_init 84 = .ok (.aload_n 0, 1) := dk_42 (dk_at dksX4_init_3 13 rfl rfl)
theorem dX4_init_85 : decode cX4_init 85 = .ok (.bipush 6, 2) := dk_16 6 (dk_at dksX4_init_3 14 rfl rfl)
theorem dX4_init_87 : decode cX4_init 87 = .ok (.newarray .int, 2) := dk_188_10 (dk_at dksX4_init_3 16 rfl rfl)
theorem dX4_init_89 : decode cX4_init 89 = .ok (.putfield 44, 3) := dk_181 0 44 (dk_at dksX4_init_3 18 rfl rfl)
theorem dX4_init_92 : decode cX4_init 92 = .ok (.aload_n 0, 1) := dk_42 (dk_at dksX4_init_3 21 rfl rfl)
theorem dX4_init_93 : decode cX4_init 93 = .ok (.bipush 12, 2) := dk_16 12 (dk_at dksX4_init_3 22 rfl rfl)
theorem dX4_init_95 : decode cX4_init 95 = .ok (.newarray .int, 2) := dk_188_10 (dk_at dksX4_init_4 0 rfl rfl)
theorem dX4_init_97 : decode cX4_init 97 = .ok (.putfield 47, 3) := dk_181 0 47 (dk_at dksX4_init_4 2 rfl rfl)
theorem dX4_init_100 : decode cX4_init 100 = .ok (.aload_n 0, 1) := dk_42 (dk_at dksX4_init_4 5 rfl rfl)
theorem dX4_init_101 : decode cX4_init 101 = .ok (.bipush 12, 2) := dk_16 12 (dk_at dksX4_init_4 6 rfl rfl)
theorem dX4_init_103 : decode cX4_init 103 = .ok (.newarray .int, 2) := dk_188_10 (dk_at dksX4_init_4 8 rfl rfl)
theorem dX4_init_105 : decode cX4_init 105 = .ok (.putfield 50, 3) := dk_181 0 50 (dk_at dksX4_init_4 10 rfl rfl)
theorem dX4_init_108 : decode cX4_init 108 = .ok (.aload_n 0, 1) := dk_42 (dk_at dksX4_init_4 13 rfl rfl)
theorem dX4_init_109 : decode cX4_init 109 = .ok (.bipush 34, 2) := dk_16 34 (dk_at dksX4_init_4 14 rfl rfl)
theorem dX4_init_111 : decode cX4_init 111 = .ok (.newarray .int, 2) := dk_188_10 (dk_at dksX4_init_4 16 rfl rfl)
theorem dX4_init_113 : decode cX4_init 113 = .ok (.putfield 53, 3) := dk_181 0 53 (dk_at dksX4_init_4 18 rfl rfl)
theorem dX4_init_116 : decode cX4_init 116 = .ok (.aload_n 0, 1) := dk_42 (dk_at dksX4_init_4 21 rfl rfl)
theorem dX4_init_117 : decode cX4_init 117 = .ok (.sipush 1400, 3) := dk_17 5 120 (dk_at dksX4_init_5 0 rfl rfl)
theorem dX4_init_120 : decode cX4_init 120 = .ok (.newarray .int, 2) := dk_188_10 (dk_at dksX4_init_5 3 rfl rfl)
theorem dX4_init_122 : decode cX4_init 122 = .ok (.putfield 56, 3) := dk_181 0 56 (dk_at dksX4_init_5 5 rfl rfl)
theorem dX4_init_125 : decode cX4_init 125 = .ok (.aload_n 0, 1) := dk_42 (dk_at dksX4_init_5 8 rfl rfl)
theorem dX4_init_126 : decode cX4_init 126 = .ok (.sipush 950, 3) := dk_17 3 182 (dk_at dksX4_init_5 9 rfl rfl)
theorem dX4_init_129 : decode cX4_init 129 = .ok (.newarray .int, 2) := dk_188_10 (dk_at dksX4_init_5 12 rfl rfl)
theorem dX4_init_131 : decode cX4_init 131 = .ok (.putfield 59, 3) := dk_181 0 59 (dk_at dksX4_init_5 14 rfl rfl)
theorem dX4_init_134 : decode cX4_init 134 = .ok (.aload_n 0, 1) := dk_42 (dk_at dksX4_init_5 17 rfl rfl)
theorem dX4_init_135 : decode cX4_init 135 = .ok (.bipush 9, 2) := dk_16 9 (dk_at dksX4_init_5 18 rfl rfl)
theorem dX4_init_137 : decode cX4_init 137 = .ok (.newarray .boolean, 2) := dk_188_4 (dk_at dksX4_init_5 20 rfl rfl)
theorem dX4_init_139 : decode cX4_init 139 = .ok (.putfield 62, 3) := dk_181 0 62 (dk_at dksX4_init_6 0 rfl rfl)
theorem dX4_init_142 : decode cX4_init 142 = .ok (.aload_n 0, 1) := dk_42 (dk_at dksX4_init_6 3 rfl rfl)
theorem dX4_init_143 : decode cX4_init 143 = .ok (.bipush 68, 2) := dk_16 68 (dk_at dksX4_init_6 4 rfl rfl)
theorem dX4_init_145 : decode cX4_init 145 = .ok (.newarray .int, 2) := dk_188_10 (dk_at dksX4_init_6 6 rfl rfl)
theorem dX4_init_147 : decode cX4_init 147 = .ok (.putfield 66, 3) := dk_181 0 66 (dk_at dksX4_init_6 8 rfl rfl)
theorem dX4_init_150 : decode cX4_init 150 = .ok (.aload_n 0, 1) := dk_42 (dk_at dksX4_init_6 11 rfl rfl)
theorem dX4_init_151 : decode cX4_init 151 = .ok (.sipush 1360, 3) := dk_17 5 80 (dk_at dksX4_init_6 12 rfl rfl)
theorem dX4_init_154 : decode cX4_init 154 = .ok (.newarray .int, 2) := dk_188_10 (dk_at dksX4_init_6 15 rfl rfl)
theorem dX4_init_156 : decode cX4_init 156 = .ok (.putfield 69, 3) := dk_181 0 69 (dk_at dksX4_init_6 17 rfl rfl)
theorem dX4_init_159 : decode cX4_init 159 = .ok (.aload_n 0, 1) := dk_42 (dk_at dksX4_init_6 20 rfl rfl)
theorem dX4_init_160 : decode cX4_init 160 = .ok (.bipush 9, 2) := dk_16 9 (dk_at dksX4_init_6 21 rfl rfl)
theorem dX4_init_162 : decode cX4_init 162 = .ok (.newarray .int, 2) := dk_188_10 (dk_at dksX4_init_7 0 rfl rfl)
theorem dX4_init_164 : decode cX4_init 164 = .ok (.putfield 72, 3) := dk_181 0 72 (dk_at dksX4_init_7 2 rfl rfl)
theorem dX4_init_167 : decode cX4_init 167 = .ok (.aload_n 0, 1) := dk_42 (dk_at dksX4_init_7 5 rfl rfl)
theorem dX4_init_168 : decode cX4_init 168 = .ok (.sipush 950, 3) := dk_17 3 182 (dk_at dksX4_init_7 6 rfl rfl)
theorem dX4_init_171 : decode cX4_init 171 = .ok (.newarray .int, 2) := dk_188_10 (dk_at dksX4_init_7 9 rfl rfl)
theorem dX4_init_173 : decode cX4_init 173 = .ok (.putfield 75, 3) := dk_181 0 75 (dk_at dksX4_init_7 11 rfl rfl)
theorem dX4_init_176 : decode cX4_init 176 = .ok (.aload_n 0, 1) := dk_42 (dk_at dksX4_init_7 14 rfl rfl)
theorem dX4_init_177 : decode cX4_init 177 = .ok (.sipush 512, 3) := dk_17 2 0 (dk_at dksX4_init_7 15 rfl rfl)
theorem dX4_init_180 : decode cX4_init 180 = .ok (.newarray .int, 2) := dk_188_10 (dk_at dksX4_init_7 18 rfl rfl)
theorem dX4_init_182 : decode cX4_init 182 = .ok (.putfield 78, 3) := dk_181 0 78 (dk_at dksX4_init_7 20 rfl rfl)
theorem dX4_init_185 : decode cX4_init 185 = .ok (.aload_n 0, 1) := dk_42 (dk_at dksX4_init_7 23 rfl rfl)
theorem dX4_init_186 : decode cX4_init 186 = .ok (.sipush 5120, 3) := dk_17 20 0 (dk_at dksX4_init_8 0 rfl rfl)
theorem dX4_init_189 : decode cX4_init 189 = .ok (.newarray .int, 2) := dk_188_10 (dk_at dksX4_init_8 3 rfl rfl)
theorem dX4_init_191 : decode cX4_init 191 = .ok (.putfield 81, 3) := dk_181 0 81 (dk_at dksX4_init_8 5 rfl rfl)
theorem dX4_init_194 : decode cX4_init 194 = .ok (.aload_n 0, 1) := dk_42 (dk_at dksX4_init_8 8 rfl rfl)
theorem dX4_init_195 : decode cX4_init 195 = .ok (.bipush 32, 2) := dk_16 32 (dk_at dksX4_init_8 9 rfl rfl)
theorem dX4_init_197 : decode cX4_init 197 = .ok (.newarray .int, 2) := dk_188_10 (dk_at dksX4_init_8 11 rfl rfl)
theorem dX4_init_199 : decode cX4_init 199 = .ok (.putfield 84, 3) := dk_181 0 84 (dk_at dksX4_init_8 13 rfl rfl)
theorem dX4_init_202 : decode cX4_init 202 = .ok (.aload_n 0, 1) := dk_42 (dk_at dksX4_init_8 16 rfl rfl)
theorem dX4_init_203 : decode cX4_init 203 = .ok (.bipush 6, 2) := dk_16 6 (dk_at dksX4_init_8 17 rfl rfl)
theorem dX4_init_205 : decode cX4_init 205 = .ok (.newarray .int, 2) := dk_188_10 (dk_at dksX4_init_8 19 rfl rfl)
theorem dX4_init_207 : decode cX4_init 207 = .ok (.putfield 87, 3) := dk_181 0 87 (dk_at dksX4_init_8 21 rfl rfl)
theorem dX4_init_210 : decode cX4_init 210 = .ok (.aload_n 0, 1) := dk_42 (dk_at dksX4_init_9 0 rfl rfl)
theorem dX4_init_211 : decode cX4_init 211 = .ok (.sipush 324, 3) := dk_17 1 68 (dk_at dksX4_init_9 1 rfl rfl)
theorem dX4_init_214 : decode cX4_init 214 = .ok (.newarray .int, 2) := dk_188_10 (dk_at dksX4_init_9 4 rfl rfl)
theorem dX4_init_216 : decode cX4_init 216 = .ok (.putfield 90, 3) := dk_181 0 90 (dk_at dksX4_init_9 6 rfl rfl)
theorem dX4_init_219 : decode cX4_init 219 = .ok (.aload_n 0, 1) := dk_42 (dk_at dksX4_init_9 9 rfl rfl)
theorem dX4_init_220 : decode cX4_init 220 = .ok (.bipush 34, 2) := dk_16 34 (dk_at dksX4_init_9 10 rfl rfl)
theorem dX4_init_222 : decode cX4_init 222 = .ok (.newarray .int, 2) := dk_188_10 (dk_at dksX4_init_9 12 rfl rfl)
theorem dX4_init_224 : decode cX4_init 224 = .ok (.putfield 93, 3) := dk_181 0 93 (dk_at dksX4_init_9 14 rfl rfl)
theorem dX4_init_227 : decode cX4_init 227 = .ok (.aload_n 0, 1) := dk_42 (dk_at dksX4_init_9 17 rfl rfl)
theorem dX4_init_228 : decode cX4_init 228 = .ok (.sipush 1360, 3) := dk_17 5 80 (dk_at dksX4_init_9 18 rfl rfl)
theorem dX4_init_231 : decode cX4_init 231 = .ok (.newarray .int, 2) := dk_188_10 (dk_at dksX4_init_9 21 rfl rfl)
theorem dX4_init_233 : decode cX4_init 233 = .ok (.putfield 96, 3) := dk_181 0 96 (dk_at dksX4_init_10 0 rfl rfl)
theorem dX4_init_236 : decode cX4_init 236 = .ok (.aload_n 0, 1) := dk_42 (dk_at dksX4_init_10 3 rfl rfl)
theorem dX4_init_237 : decode cX4_init 237 = .ok (.bipush 32, 2) := dk_16 32 (dk_at dksX4_init_10 4 rfl rfl)
theorem dX4_init_239 : decode cX4_init 239 = .ok (.newarray .int, 2) := dk_188_10 (dk_at dksX4_init_10 6 rfl rfl)
theorem dX4_init_241 : decode cX4_init 241 = .ok (.putfield 99, 3) := dk_181 0 99 (dk_at dksX4_init_10 8 rfl rfl)
theorem dX4_init_244 : decode cX4_init 244 = .ok (.return_, 1) := dk_177 (dk_at dksX4_init_10 11 rfl rfl)
abbrev cX4_thrown : ByteArray := prog_12_method_2_code
def yX4_thrown : MethodName := ⟨RX4, "thrown", "()I"⟩
theorem dX4_thrown_0 : decode cX4_thrown 0 = .ok (.aload_n 0, 1) := by decide +kernel
theorem dX4_thrown_1 : decode cX4_thrown 1 = .ok (.getfield 102, 3) := by decide +kernel
theorem dX4_thrown_4 : decode cX4_thrown 4 = .ok (.ireturn, 1) := by decide +kernel
abbrev cX4_feed : ByteArray := prog_12_method_8_code
def yX4_feed : MethodName := ⟨RX4, "feed", "(IIIII)I"⟩
def dkwX4_feed_2 : List UInt8 := [182, 0, 108, 42, 180, 0, 105, 172]
abbrev dktX4_feed_2 : List UInt8 := dkwX4_feed_2 ++ []
def dkwX4_feed_1 : List UInt8 := [182, 0, 108, 42, 28, 182, 0, 108, 42, 29, 182, 0, 108, 42, 21, 4, 182, 0, 108, 42, 21, 5]
abbrev dktX4_feed_1 : List UInt8 := dkwX4_feed_1 ++ dktX4_feed_2
def dkwX4_feed_0 : List UInt8 := [42, 3, 181, 0, 102, 42, 180, 0, 105, 16, 20, 96, 17, 2, 188, 164, 0, 5, 2, 172, 42, 27]
abbrev dktX4_feed_0 : List UInt8 := dkwX4_feed_0 ++ dktX4_feed_1
theorem dksX4_feed_0 : cX4_feed.data.toList.drop 0 = dktX4_feed_0 := by decide +kernel
theorem dksX4_feed_1 : cX4_feed.data.toList.drop 22 = dktX4_feed_1 := dk_seg dksX4_feed_0 22 rfl rfl
theorem dksX4_feed_2 : cX4_feed.data.toList.drop 44 = dktX4_feed_2 := dk_seg dksX4_feed_1 22 rfl rfl
theorem dX4_feed_0 : decode cX4_feed 0 = .ok (.aload_n 0, 1) := dk_42 (dk_at dksX4_feed_0 0 rfl rfl)
theorem dX4_feed_1 : decode cX4_feed 1 = .ok (.iconst 0, 1) := dk_3 (dk_at dksX4_feed_0 1 rfl rfl)
theorem dX4_feed_2 : decode cX4_feed 2 = .ok (.putfield 102, 3) := dk_181 0 102 (dk_at dksX4_feed_0 2 rfl rfl)
theorem dX4_feed_5 : decode cX4_feed 5 = .ok (.aload_n 0, 1) := dk_42 (dk_at dksX4_feed_0 5 rfl rfl)
theorem dX4_feed_6 : decode cX4_feed 6 = .ok (.getfield 105, 3) := dk_180 0 105 (dk_at dksX4_feed_0 6 rfl rfl)
theorem dX4_feed_9 : decode cX4_feed 9 = .ok (.bipush 20, 2) := dk_16 20 (dk_at dksX4_feed_0 9 rfl rfl)
theorem dX4_feed_11 : decode cX4_feed 11 = .ok (.iadd, 1) := dk_96 (dk_at dksX4_feed_0 11 rfl rfl)
theorem dX4_feed_12 : decode cX4_feed 12 = .ok (.sipush 700, 3) := dk_17 2 188 (dk_at dksX4_feed_0 12 rfl rfl)
theorem dX4_feed_15 : decode cX4_feed 15 = .ok (.if_icmp .le 5, 3) := dk_164 0 5 (dk_at dksX4_feed_0 15 rfl rfl)
theorem dX4_feed_18 : decode cX4_feed 18 = .ok (.iconst (-1), 1) := dk_2 (dk_at dksX4_feed_0 18 rfl rfl)
theorem dX4_feed_19 : decode cX4_feed 19 = .ok (.ireturn, 1) := dk_172 (dk_at dksX4_feed_0 19 rfl rfl)
theorem dX4_feed_20 : decode cX4_feed 20 = .ok (.aload_n 0, 1) := dk_42 (dk_at dksX4_feed_0 20 rfl rfl)
theorem dX4_feed_21 : decode cX4_feed 21 = .ok (.iload_n 1, 1) := dk_27 (dk_at dksX4_feed_0 21 rfl rfl)
theorem dX4_feed_22 : decode cX4_feed 22 = .ok (.invokevirtual 108, 3) := dk_182 0 108 (dk_at dksX4_feed_1 0 rfl rfl)
theorem dX4_feed_25 : decode cX4_feed 25 = .ok (.aload_n 0, 1) := dk_42 (dk_at dksX4_feed_1 3 rfl rfl)
theorem dX4_feed_26 : decode cX4_feed 26 = .ok (.iload_n 2, 1) := dk_28 (dk_at dksX4_feed_1 4 rfl rfl)
theorem dX4_feed_27 : decode cX4_feed 27 = .ok (.invokevirtual 108, 3) := dk_182 0 108 (dk_at dksX4_feed_1 5 rfl rfl)
theorem dX4_feed_30 : decode cX4_feed 30 = .ok (.aload_n 0, 1) := dk_42 (dk_at dksX4_feed_1 8 rfl rfl)
theorem dX4_feed_31 : decode cX4_feed 31 = .ok (.iload_n 3, 1) := dk_29 (dk_at dksX4_feed_1 9 rfl rfl)
theorem dX4_feed_32 : decode cX4_feed 32 = .ok (.invokevirtual 108, 3) := dk_182 0 108 (dk_at dksX4_feed_1 10 rfl rfl)
theorem dX4_feed_35 : decode cX4_feed 35 = .ok (.aload_n 0, 1) := dk_42 (dk_at dksX4_feed_1 13 rfl rfl)
theorem dX4_feed_36 : decode cX4_feed 36 = .ok (.iload 4, 2) := dk_21 4 (dk_at dksX4_feed_1 14 rfl rfl)
theorem dX4_feed_38 : decode cX4_feed 38 = .ok (.invokevirtual 108, 3) := dk_182 0 108 (dk_at dksX4_feed_1 16 rfl rfl)
theorem dX4_feed_41 : decode cX4_feed 41 = .ok (.aload_n 0, 1) := dk_42 (dk_at dksX4_feed_1 19 rfl rfl)
theorem dX4_feed_42 : decode cX4_feed 42 = .ok (.iload 5, 2) := dk_21 5 (dk_at dksX4_feed_1 20 rfl rfl)
theorem dX4_feed_44 : decode cX4_feed 44 = .ok (.invokevirtual 108, 3) := dk_182 0 108 (dk_at dksX4_feed_2 0 rfl rfl)
theorem dX4_feed_47 : decode cX4_feed 47 = .ok (.aload_n 0, 1) := dk_42 (dk_at dksX4_feed_2 3 rfl rfl)
theorem dX4_feed_48 : decode cX4_feed 48 = .ok (.getfield 105, 3) := dk_180 0 105 (dk_at dksX4_feed_2 4 rfl rfl)
theorem dX4_feed_51 : decode cX4_feed 51 = .ok (.ireturn, 1) := dk_172 (dk_at dksX4_feed_2 7 rfl rfl)
abbrev cX4_lays : ByteArray := prog_12_method_9_code
def yX4_lays : MethodName := ⟨RX4, "lays", "(I)V"⟩
def dkwX4_lays_1 : List UInt8 := [89, 180, 0, 105, 4, 96, 181, 0, 105, 132, 2, 248, 167, 255, 223, 177]
abbrev dktX4_lays_1 : List UInt8 := dkwX4_lays_1 ++ []
def dkwX4_lays_0 : List UInt8 := [16, 24, 61, 28, 155, 0, 35, 42, 180, 0, 32, 42, 180, 0, 105, 27, 28, 122, 17, 0, 255, 126, 79, 42]
abbrev dktX4_lays_0 : List UInt8 := dkwX4_lays_0 ++ dktX4_lays_1
theorem dksX4_lays_0 : cX4_lays.data.toList.drop 0 = dktX4_lays_0 := by decide +kernel
theorem dksX4_lays_1 : cX4_lays.data.toList.drop 24 = dktX4_lays_1 := dk_seg dksX4_lays_0 24 rfl rfl
theorem dX4_lays_0 : decode cX4_lays 0 = .ok (.bipush 24, 2) := dk_16 24 (dk_at dksX4_lays_0 0 rfl rfl)
theorem dX4_lays_2 : decode cX4_lays 2 = .ok (.istore_n 2, 1) := dk_61 (dk_at dksX4_lays_0 2 rfl rfl)
theorem dX4_lays_3 : decode cX4_lays 3 = .ok (.iload_n 2, 1) := dk_28 (dk_at dksX4_lays_0 3 rfl rfl)
theorem dX4_lays_4 : decode cX4_lays 4 = .ok (.ifCond .lt 35, 3) := dk_155 0 35 (dk_at dksX4_lays_0 4 rfl rfl)
theorem dX4_lays_7 : decode cX4_lays 7 = .ok (.aload_n 0, 1) := dk_42 (dk_at dksX4_lays_0 7 rfl rfl)
theorem dX4_lays_8 : decode cX4_lays 8 = .ok (.getfield 32, 3) := dk_180 0 32 (dk_at dksX4_lays_0 8 rfl rfl)
theorem dX4_lays_11 : decode cX4_lays 11 = .ok (.aload_n 0, 1) := dk_42 (dk_at dksX4_lays_0 11 rfl rfl)
theorem dX4_lays_12 : decode cX4_lays 12 = .ok (.getfield 105, 3) := dk_180 0 105 (dk_at dksX4_lays_0 12 rfl rfl)
theorem dX4_lays_15 : decode cX4_lays 15 = .ok (.iload_n 1, 1) := dk_27 (dk_at dksX4_lays_0 15 rfl rfl)
theorem dX4_lays_16 : decode cX4_lays 16 = .ok (.iload_n 2, 1) := dk_28 (dk_at dksX4_lays_0 16 rfl rfl)
theorem dX4_lays_17 : decode cX4_lays 17 = .ok (.ishr, 1) := dk_122 (dk_at dksX4_lays_0 17 rfl rfl)
theorem dX4_lays_18 : decode cX4_lays 18 = .ok (.sipush 255, 3) := dk_17 0 255 (dk_at dksX4_lays_0 18 rfl rfl)
theorem dX4_lays_21 : decode cX4_lays 21 = .ok (.iand, 1) := dk_126 (dk_at dksX4_lays_0 21 rfl rfl)
theorem dX4_lays_22 : decode cX4_lays 22 = .ok (.iastore, 1) := dk_79 (dk_at dksX4_lays_0 22 rfl rfl)
theorem dX4_lays_23 : decode cX4_lays 23 = .ok (.aload_n 0, 1) := dk_42 (dk_at dksX4_lays_0 23 rfl rfl)
theorem dX4_lays_24 : decode cX4_lays 24 = .ok (.dup, 1) := dk_89 (dk_at dksX4_lays_1 0 rfl rfl)
theorem dX4_lays_25 : decode cX4_lays 25 = .ok (.getfield 105, 3) := dk_180 0 105 (dk_at dksX4_lays_1 1 rfl rfl)
theorem dX4_lays_28 : decode cX4_lays 28 = .ok (.iconst 1, 1) := dk_4 (dk_at dksX4_lays_1 4 rfl rfl)
theorem dX4_lays_29 : decode cX4_lays 29 = .ok (.iadd, 1) := dk_96 (dk_at dksX4_lays_1 5 rfl rfl)
theorem dX4_lays_30 : decode cX4_lays 30 = .ok (.putfield 105, 3) := dk_181 0 105 (dk_at dksX4_lays_1 6 rfl rfl)
theorem dX4_lays_33 : decode cX4_lays 33 = .ok (.iinc 2 (-8), 3) := dk_132 2 248 (dk_at dksX4_lays_1 9 rfl rfl)
theorem dX4_lays_36 : decode cX4_lays 36 = .ok (.goto (-33), 3) := dk_167 255 223 (dk_at dksX4_lays_1 12 rfl rfl)
theorem dX4_lays_39 : decode cX4_lays 39 = .ok (.return_, 1) := dk_177 (dk_at dksX4_lays_1 15 rfl rfl)
abbrev cX4_office : ByteArray := prog_12_method_40_code
def yX4_office : MethodName := ⟨RX4, "office", "(I)I"⟩
def dkwX4_office_13 : List UInt8 := [3, 172]
abbrev dktX4_office_13 : List UInt8 := dkwX4_office_13 ++ []
def dkwX4_office_12 : List UInt8 := [28, 46, 79, 132, 2, 1, 167, 255, 235, 42, 3, 181, 1, 40, 42, 3, 181, 1, 43, 42, 3, 181, 1, 46]
abbrev dktX4_office_12 : List UInt8 := dkwX4_office_12 ++ dktX4_office_13
def dkwX4_office_11 : List UInt8 := [42, 180, 0, 29, 182, 1, 36, 3, 61, 28, 16, 34, 162, 0, 21, 42, 180, 0, 66, 28, 42, 180, 0, 53]
abbrev dktX4_office_11 : List UInt8 := dkwX4_office_11 ++ dktX4_office_12
def dkwX4_office_10 : List UInt8 := [42, 180, 0, 23, 182, 1, 36, 42, 42, 180, 0, 50, 42, 180, 0, 26, 182, 1, 36, 42, 42, 180, 0, 56]
abbrev dktX4_office_10 : List UInt8 := dkwX4_office_10 ++ dktX4_office_11
def dkwX4_office_9 : List UInt8 := [42, 180, 0, 16, 182, 1, 36, 42, 42, 180, 0, 44, 42, 180, 0, 20, 182, 1, 36, 42, 42, 180, 0, 47]
abbrev dktX4_office_9 : List UInt8 := dkwX4_office_9 ++ dktX4_office_10
def dkwX4_office_8 : List UInt8 := [181, 1, 33, 42, 42, 180, 1, 4, 181, 0, 9, 42, 42, 180, 1, 11, 181, 0, 13, 42, 42, 180, 0, 41]
abbrev dktX4_office_8 : List UInt8 := dkwX4_office_8 ++ dktX4_office_9
def dkwX4_office_7 : List UInt8 := [180, 0, 234, 181, 1, 30, 42, 42, 180, 1, 1, 2, 160, 0, 7, 3, 167, 0, 7, 42, 180, 1, 1]
abbrev dktX4_office_7 : List UInt8 := dkwX4_office_7 ++ dktX4_office_8
def dkwX4_office_6 : List UInt8 := [180, 0, 158, 172, 42, 42, 180, 0, 224, 181, 1, 24, 42, 42, 180, 0, 231, 181, 1, 27, 42, 42]
abbrev dktX4_office_6 : List UInt8 := dkwX4_office_6 ++ dktX4_office_7
def dkwX4_office_5 : List UInt8 := [182, 1, 21, 167, 255, 238, 42, 182, 0, 161, 154, 0, 18, 42, 180, 0, 38, 3, 92, 46, 4, 96, 79, 42]
abbrev dktX4_office_5 : List UInt8 := dkwX4_office_5 ++ dktX4_office_6
def dkwX4_office_4 : List UInt8 := [181, 0, 171, 42, 182, 0, 165, 42, 182, 0, 161, 153, 0, 17, 42, 180, 0, 135, 153, 0, 10, 42]
abbrev dktX4_office_4 : List UInt8 := dkwX4_office_4 ++ dktX4_office_5
def dkwX4_office_3 : List UInt8 := [42, 2, 181, 1, 1, 42, 2, 181, 1, 4, 42, 2, 181, 1, 11, 42, 180, 0, 53, 3, 3, 79, 42, 3]
abbrev dktX4_office_3 : List UInt8 := dkwX4_office_3 ++ dktX4_office_4
def dkwX4_office_2 : List UInt8 := [27, 181, 0, 112, 42, 3, 181, 0, 115, 42, 3, 181, 0, 224, 42, 3, 181, 0, 231, 42, 3, 181, 0, 234]
abbrev dktX4_office_2 : List UInt8 := dkwX4_office_2 ++ dktX4_office_3
def dkwX4_office_1 : List UInt8 := [182, 1, 17, 154, 0, 5, 3, 172, 42, 3, 181, 0, 105, 42, 2, 181, 0, 35, 42, 3, 181, 0, 158, 42]
abbrev dktX4_office_1 : List UInt8 := dkwX4_office_1 ++ dktX4_office_2
def dkwX4_office_0 : List UInt8 := [42, 3, 181, 0, 102, 42, 27, 155, 0, 15, 27, 42, 180, 0, 105, 163, 0, 7, 4, 167, 0, 4, 3, 4]
abbrev dktX4_office_0 : List UInt8 := dkwX4_office_0 ++ dktX4_office_1
theorem dksX4_office_0 : cX4_office.data.toList.drop 0 = dktX4_office_0 := by decide +kernel
theorem dksX4_office_1 : cX4_office.data.toList.drop 24 = dktX4_office_1 := dk_seg dksX4_office_0 24 rfl rfl
theorem dksX4_office_2 : cX4_office.data.toList.drop 48 = dktX4_office_2 := dk_seg dksX4_office_1 24 rfl rfl
theorem dksX4_office_3 : cX4_office.data.toList.drop 72 = dktX4_office_3 := dk_seg dksX4_office_2 24 rfl rfl
theorem dksX4_office_4 : cX4_office.data.toList.drop 96 = dktX4_office_4 := dk_seg dksX4_office_3 24 rfl rfl
theorem dksX4_office_5 : cX4_office.data.toList.drop 118 = dktX4_office_5 := dk_seg dksX4_office_4 22 rfl rfl
theorem dksX4_office_6 : cX4_office.data.toList.drop 142 = dktX4_office_6 := dk_seg dksX4_office_5 24 rfl rfl
theorem dksX4_office_7 : cX4_office.data.toList.drop 164 = dktX4_office_7 := dk_seg dksX4_office_6 22 rfl rfl
theorem dksX4_office_8 : cX4_office.data.toList.drop 187 = dktX4_office_8 := dk_seg dksX4_office_7 23 rfl rfl
theorem dksX4_office_9 : cX4_office.data.toList.drop 211 = dktX4_office_9 := dk_seg dksX4_office_8 24 rfl rfl
theorem dksX4_office_10 : cX4_office.data.toList.drop 235 = dktX4_office_10 := dk_seg dksX4_office_9 24 rfl rfl
theorem dksX4_office_11 : cX4_office.data.toList.drop 259 = dktX4_office_11 := dk_seg dksX4_office_10 24 rfl rfl
theorem dksX4_office_12 : cX4_office.data.toList.drop 283 = dktX4_office_12 := dk_seg dksX4_office_11 24 rfl rfl
theorem dksX4_office_13 : cX4_office.data.toList.drop 307 = dktX4_office_13 := dk_seg dksX4_office_12 24 rfl rfl
theorem dX4_office_0 : decode cX4_office 0 = .ok (.aload_n 0, 1) := dk_42 (dk_at dksX4_office_0 0 rfl rfl)
theorem dX4_office_1 : decode cX4_office 1 = .ok (.iconst 0, 1) := dk_3 (dk_at dksX4_office_0 1 rfl rfl)
theorem dX4_office_2 : decode cX4_office 2 = .ok (.putfield 102, 3) := dk_181 0 102 (dk_at dksX4_office_0 2 rfl rfl)
theorem dX4_office_5 : decode cX4_office 5 = .ok (.aload_n 0, 1) := dk_42 (dk_at dksX4_office_0 5 rfl rfl)
theorem dX4_office_6 : decode cX4_office 6 = .ok (.iload_n 1, 1) := dk_27 (dk_at dksX4_office_0 6 rfl rfl)
theorem dX4_office_7 : decode cX4_office 7 = .ok (.ifCond .lt 15, 3) := dk_155 0 15 (dk_at dksX4_office_0 7 rfl rfl)
theorem dX4_office_10 : decode cX4_office 10 = .ok (.iload_n 1, 1) := dk_27 (dk_at dksX4_office_0 10 rfl rfl)
theorem dX4_office_11 : decode cX4_office 11 = .ok (.aload_n 0, 1) := dk_42 (dk_at dksX4_office_0 11 rfl rfl)
theorem dX4_office_12 : decode cX4_office 12 = .ok (.getfield 105, 3) := dk_180 0 105 (dk_at dksX4_office_0 12 rfl rfl)
theorem dX4_office_15 : decode cX4_office 15 = .ok (.if_icmp .gt 7, 3) := dk_163 0 7 (dk_at dksX4_office_0 15 rfl rfl)
theorem dX4_office_18 : decode cX4_office 18 = .ok (.iconst 1, 1) := dk_4 (dk_at dksX4_office_0 18 rfl rfl)
theorem dX4_office_19 : decode cX4_office 19 = .ok (.goto 4, 3) := dk_167 0 4 (dk_at dksX4_office_0 19 rfl rfl)
theorem dX4_office_22 : decode cX4_office 22 = .ok (.iconst 0, 1) := dk_3 (dk_at dksX4_office_0 22 rfl rfl)
theorem dX4_office_23 : decode cX4_office 23 = .ok (.iconst 1, 1) := dk_4 (dk_at dksX4_office_0 23 rfl rfl)
theorem dX4_office_24 : decode cX4_office 24 = .ok (.invokevirtual 273, 3) := dk_182 1 17 (dk_at dksX4_office_1 0 rfl rfl)
theorem dX4_office_27 : decode cX4_office 27 = .ok (.ifCond .ne 5, 3) := dk_154 0 5 (dk_at dksX4_office_1 3 rfl rfl)
theorem dX4_office_30 : decode cX4_office 30 = .ok (.iconst 0, 1) := dk_3 (dk_at dksX4_office_1 6 rfl rfl)
theorem dX4_office_31 : decode cX4_office 31 = .ok (.ireturn, 1) := dk_172 (dk_at dksX4_office_1 7 rfl rfl)
theorem dX4_office_32 : decode cX4_office 32 = .ok (.aload_n 0, 1) := dk_42 (dk_at dksX4_office_1 8 rfl rfl)
theorem dX4_office_33 : decode cX4_office 33 = .ok (.iconst 0, 1) := dk_3 (dk_at dksX4_office_1 9 rfl rfl)
theorem dX4_office_34 : decode cX4_office 34 = .ok (.putfield 105, 3) := dk_181 0 105 (dk_at dksX4_office_1 10 rfl rfl)
theorem dX4_office_37 : decode cX4_office 37 = .ok (.aload_n 0, 1) := dk_42 (dk_at dksX4_office_1 13 rfl rfl)
theorem dX4_office_38 : decode cX4_office 38 = .ok (.iconst (-1), 1) := dk_2 (dk_at dksX4_office_1 14 rfl rfl)
theorem dX4_office_39 : decode cX4_office 39 = .ok (.putfield 35, 3) := dk_181 0 35 (dk_at dksX4_office_1 15 rfl rfl)
theorem dX4_office_42 : decode cX4_office 42 = .ok (.aload_n 0, 1) := dk_42 (dk_at dksX4_office_1 18 rfl rfl)
theorem dX4_office_43 : decode cX4_office 43 = .ok (.iconst 0, 1) := dk_3 (dk_at dksX4_office_1 19 rfl rfl)
theorem dX4_office_44 : decode cX4_office 44 = .ok (.putfield 158, 3) := dk_181 0 158 (dk_at dksX4_office_1 20 rfl rfl)
theorem dX4_office_47 : decode cX4_office 47 = .ok (.aload_n 0, 1) := dk_42 (dk_at dksX4_office_1 23 rfl rfl)
theorem dX4_office_48 : decode cX4_office 48 = .ok (.iload_n 1, 1) := dk_27 (dk_at dksX4_office_2 0 rfl rfl)
theorem dX4_office_49 : decode cX4_office 49 = .ok (.putfield 112, 3) := dk_181 0 112 (dk_at dksX4_office_2 1 rfl rfl)
theorem dX4_office_52 : decode cX4_office 52 = .ok (.aload_n 0, 1) := dk_42 (dk_at dksX4_office_2 4 rfl rfl)
theorem dX4_office_53 : decode cX4_office 53 = .ok (.iconst 0, 1) := dk_3 (dk_at dksX4_office_2 5 rfl rfl)
theorem dX4_office_54 : decode cX4_office 54 = .ok (.putfield 115, 3) := dk_181 0 115 (dk_at dksX4_office_2 6 rfl rfl)
theorem dX4_office_57 : decode cX4_office 57 = .ok (.aload_n 0, 1) := dk_42 (dk_at dksX4_office_2 9 rfl rfl)
theorem dX4_office_58 : decode cX4_office 58 = .ok (.iconst 0, 1) := dk_3 (dk_at dksX4_office_2 10 rfl rfl)
theorem dX4_office_59 : decode cX4_office 59 = .ok (.putfield 224, 3) := dk_181 0 224 (dk_at dksX4_office_2 11 rfl rfl)
theorem dX4_office_62 : decode cX4_office 62 = .ok (.aload_n 0, 1) := dk_42 (dk_at dksX4_office_2 14 rfl rfl)
theorem dX4_office_63 : decode cX4_office 63 = .ok (.iconst 0, 1) := dk_3 (dk_at dksX4_office_2 15 rfl rfl)
theorem dX4_office_64 : decode cX4_office 64 = .ok (.putfield 231, 3) := dk_181 0 231 (dk_at dksX4_office_2 16 rfl rfl)
theorem dX4_office_67 : decode cX4_office 67 = .ok (.aload_n 0, 1) := dk_42 (dk_at dksX4_office_2 19 rfl rfl)
theorem dX4_office_68 : decode cX4_office 68 = .ok (.iconst 0, 1) := dk_3 (dk_at dksX4_office_2 20 rfl rfl)
theorem dX4_office_69 : decode cX4_office 69 = .ok (.putfield 234, 3) := dk_181 0 234 (dk_at dksX4_office_2 21 rfl rfl)
theorem dX4_office_72 : decode cX4_office 72 = .ok (.aload_n 0, 1) := dk_42 (dk_at dksX4_office_3 0 rfl rfl)
theorem dX4_office_73 : decode cX4_office 73 = .ok (.iconst (-1), 1) := dk_2 (dk_at dksX4_office_3 1 rfl rfl)
theorem dX4_office_74 : decode cX4_office 74 = .ok (.putfield 257, 3) := dk_181 1 1 (dk_at dksX4_office_3 2 rfl rfl)
theorem dX4_office_77 : decode cX4_office 77 = .ok (.aload_n 0, 1) := dk_42 (dk_at dksX4_office_3 5 rfl rfl)
theorem dX4_office_78 : decode cX4_office 78 = .ok (.iconst (-1), 1) := dk_2 (dk_at dksX4_office_3 6 rfl rfl)
theorem dX4_office_79 : decode cX4_office 79 = .ok (.putfield 260, 3) := dk_181 1 4 (dk_at dksX4_office_3 7 rfl rfl)
theorem dX4_office_82 : decode cX4_office 82 = .ok (.aload_n 0, 1) := dk_42 (dk_at dksX4_office_3 10 rfl rfl)
theorem dX4_office_83 : decode cX4_office 83 = .ok (.iconst (-1), 1) := dk_2 (dk_at dksX4_office_3 11 rfl rfl)
theorem dX4_office_84 : decode cX4_office 84 = .ok (.putfield 267, 3) := dk_181 1 11 (dk_at dksX4_office_3 12 rfl rfl)
theorem dX4_office_87 : decode cX4_office 87 = .ok (.aload_n 0, 1) := dk_42 (dk_at dksX4_office_3 15 rfl rfl)
theorem dX4_office_88 : decode cX4_office 88 = .ok (.getfield 53, 3) := dk_180 0 53 (dk_at dksX4_office_3 16 rfl rfl)
theorem dX4_office_91 : decode cX4_office 91 = .ok (.iconst 0, 1) := dk_3 (dk_at dksX4_office_3 19 rfl rfl)
theorem dX4_office_92 : decode cX4_office 92 = .ok (.iconst 0, 1) := dk_3 (dk_at dksX4_office_3 20 rfl rfl)
theorem dX4_office_93 : decode cX4_office 93 = .ok (.iastore, 1) := dk_79 (dk_at dksX4_office_3 21 rfl rfl)
theorem dX4_office_94 : decode cX4_office 94 = .ok (.aload_n 0, 1) := dk_42 (dk_at dksX4_office_3 22 rfl rfl)
theorem dX4_office_95 : decode cX4_office 95 = .ok (.iconst 0, 1) := dk_3 (dk_at dksX4_office_3 23 rfl rfl)
theorem dX4_office_96 : decode cX4_office 96 = .ok (.putfield 171, 3) := dk_181 0 171 (dk_at dksX4_office_4 0 rfl rfl)
theorem dX4_office_99 : decode cX4_office 99 = .ok (.aload_n 0, 1) := dk_42 (dk_at dksX4_office_4 3 rfl rfl)
theorem dX4_office_100 : decode cX4_office 100 = .ok (.invokevirtual 165, 3) := dk_182 0 165 (dk_at dksX4_office_4 4 rfl rfl)
theorem dX4_office_103 : decode cX4_office 103 = .ok (.aload_n 0, 1) := dk_42 (dk_at dksX4_office_4 7 rfl rfl)
theorem dX4_office_104 : decode cX4_office 104 = .ok (.invokevirtual 161, 3) := dk_182 0 161 (dk_at dksX4_office_4 8 rfl rfl)
theorem dX4_office_107 : decode cX4_office 107 = .ok (.ifCond .eq 17, 3) := dk_153 0 17 (dk_at dksX4_office_4 11 rfl rfl)
theorem dX4_office_110 : decode cX4_office 110 = .ok (.aload_n 0, 1) := dk_42 (dk_at dksX4_office_4 14 rfl rfl)
theorem dX4_office_111 : decode cX4_office 111 = .ok (.getfield 135, 3) := dk_180 0 135 (dk_at dksX4_office_4 15 rfl rfl)
theorem dX4_office_114 : decode cX4_office 114 = .ok (.ifCond .eq 10, 3) := dk_153 0 10 (dk_at dksX4_office_4 18 rfl rfl)
theorem dX4_office_117 : decode cX4_office 117 = .ok (.aload_n 0, 1) := dk_42 (dk_at dksX4_office_4 21 rfl rfl)
theorem dX4_office_118 : decode cX4_office 118 = .ok (.invokevirtual 277, 3) := dk_182 1 21 (dk_at dksX4_office_5 0 rfl rfl)
theorem dX4_office_121 : decode cX4_office 121 = .ok (.goto (-18), 3) := dk_167 255 238 (dk_at dksX4_office_5 3 rfl rfl)
theorem dX4_office_124 : decode cX4_office 124 = .ok (.aload_n 0, 1) := dk_42 (dk_at dksX4_office_5 6 rfl rfl)
theorem dX4_office_125 : decode cX4_office 125 = .ok (.invokevirtual 161, 3) := dk_182 0 161 (dk_at dksX4_office_5 7 rfl rfl)
theorem dX4_office_128 : decode cX4_office 128 = .ok (.ifCond .ne 18, 3) := dk_154 0 18 (dk_at dksX4_office_5 10 rfl rfl)
theorem dX4_office_131 : decode cX4_office 131 = .ok (.aload_n 0, 1) := dk_42 (dk_at dksX4_office_5 13 rfl rfl)
theorem dX4_office_132 : decode cX4_office 132 = .ok (.getfield 38, 3) := dk_180 0 38 (dk_at dksX4_office_5 14 rfl rfl)
theorem dX4_office_135 : decode cX4_office 135 = .ok (.iconst 0, 1) := dk_3 (dk_at dksX4_office_5 17 rfl rfl)
theorem dX4_office_136 : decode cX4_office 136 = .ok (.dup2, 1) := dk_92 (dk_at dksX4_office_5 18 rfl rfl)
theorem dX4_office_137 : decode cX4_office 137 = .ok (.iaload, 1) := dk_46 (dk_at dksX4_office_5 19 rfl rfl)
theorem dX4_office_138 : decode cX4_office 138 = .ok (.iconst 1, 1) := dk_4 (dk_at dksX4_office_5 20 rfl rfl)
theorem dX4_office_139 : decode cX4_office 139 = .ok (.iadd, 1) := dk_96 (dk_at dksX4_office_5 21 rfl rfl)
theorem dX4_office_140 : decode cX4_office 140 = .ok (.iastore, 1) := dk_79 (dk_at dksX4_office_5 22 rfl rfl)
theorem dX4_office_141 : decode cX4_office 141 = .ok (.aload_n 0, 1) := dk_42 (dk_at dksX4_office_5 23 rfl rfl)
theorem dX4_office_142 : decode cX4_office 142 = .ok (.getfield 158, 3) := dk_180 0 158 (dk_at dksX4_office_6 0 rfl rfl)
theorem dX4_office_145 : decode cX4_office 145 = .ok (.ireturn, 1) := dk_172 (dk_at dksX4_office_6 3 rfl rfl)
theorem dX4_office_146 : decode cX4_office 146 = .ok (.aload_n 0, 1) := dk_42 (dk_at dksX4_office_6 4 rfl rfl)
theorem dX4_office_147 : decode cX4_office 147 = .ok (.aload_n 0, 1) := dk_42 (dk_at dksX4_office_6 5 rfl rfl)
theorem dX4_office_148 : decode cX4_office 148 = .ok (.getfield 224, 3) := dk_180 0 224 (dk_at dksX4_office_6 6 rfl rfl)
theorem dX4_office_151 : decode cX4_office 151 = .ok (.putfield 280, 3) := dk_181 1 24 (dk_at dksX4_office_6 9 rfl rfl)
theorem dX4_office_154 : decode cX4_office 154 = .ok (.aload_n 0, 1) := dk_42 (dk_at dksX4_office_6 12 rfl rfl)
theorem dX4_office_155 : decode cX4_office 155 = .ok (.aload_n 0, 1) := dk_42 (dk_at dksX4_office_6 13 rfl rfl)
theorem dX4_office_156 : decode cX4_office 156 = .ok (.getfield 231, 3) := dk_180 0 231 (dk_at dksX4_office_6 14 rfl rfl)
theorem dX4_office_159 : decode cX4_office 159 = .ok (.putfield 283, 3) := dk_181 1 27 (dk_at dksX4_office_6 17 rfl rfl)
theorem dX4_office_162 : decode cX4_office 162 = .ok (.aload_n 0, 1) := dk_42 (dk_at dksX4_office_6 20 rfl rfl)
theorem dX4_office_163 : decode cX4_office 163 = .ok (.aload_n 0, 1) := dk_42 (dk_at dksX4_office_6 21 rfl rfl)
theorem dX4_office_164 : decode cX4_office 164 = .ok (.getfield 234, 3) := dk_180 0 234 (dk_at dksX4_office_7 0 rfl rfl)
theorem dX4_office_167 : decode cX4_office 167 = .ok (.putfield 286, 3) := dk_181 1 30 (dk_at dksX4_office_7 3 rfl rfl)
theorem dX4_office_170 : decode cX4_office 170 = .ok (.aload_n 0, 1) := dk_42 (dk_at dksX4_office_7 6 rfl rfl)
theorem dX4_office_171 : decode cX4_office 171 = .ok (.aload_n 0, 1) := dk_42 (dk_at dksX4_office_7 7 rfl rfl)
theorem dX4_office_172 : decode cX4_office 172 = .ok (.getfield 257, 3) := dk_180 1 1 (dk_at dksX4_office_7 8 rfl rfl)
theorem dX4_office_175 : decode cX4_office 175 = .ok (.iconst (-1), 1) := dk_2 (dk_at dksX4_office_7 11 rfl rfl)
theorem dX4_office_176 : decode cX4_office 176 = .ok (.if_icmp .ne 7, 3) := dk_160 0 7 (dk_at dksX4_office_7 12 rfl rfl)
theorem dX4_office_179 : decode cX4_office 179 = .ok (.iconst 0, 1) := dk_3 (dk_at dksX4_office_7 15 rfl rfl)
theorem dX4_office_180 : decode cX4_office 180 = .ok (.goto 7, 3) := dk_167 0 7 (dk_at dksX4_office_7 16 rfl rfl)
theorem dX4_office_183 : decode cX4_office 183 = .ok (.aload_n 0, 1) := dk_42 (dk_at dksX4_office_7 19 rfl rfl)
theorem dX4_office_184 : decode cX4_office 184 = .ok (.getfield 257, 3) := dk_180 1 1 (dk_at dksX4_office_7 20 rfl rfl)
theorem dX4_office_187 : decode cX4_office 187 = .ok (.putfield 289, 3) := dk_181 1 33 (dk_at dksX4_office_8 0 rfl rfl)
theorem dX4_office_190 : decode cX4_office 190 = .ok (.aload_n 0, 1) := dk_42 (dk_at dksX4_office_8 3 rfl rfl)
theorem dX4_office_191 : decode cX4_office 191 = .ok (.aload_n 0, 1) := dk_42 (dk_at dksX4_office_8 4 rfl rfl)
theorem dX4_office_192 : decode cX4_office 192 = .ok (.getfield 260, 3) := dk_180 1 4 (dk_at dksX4_office_8 5 rfl rfl)
theorem dX4_office_195 : decode cX4_office 195 = .ok (.putfield 9, 3) := dk_181 0 9 (dk_at dksX4_office_8 8 rfl rfl)
theorem dX4_office_198 : decode cX4_office 198 = .ok (.aload_n 0, 1) := dk_42 (dk_at dksX4_office_8 11 rfl rfl)
theorem dX4_office_199 : decode cX4_office 199 = .ok (.aload_n 0, 1) := dk_42 (dk_at dksX4_office_8 12 rfl rfl)
theorem dX4_office_200 : decode cX4_office 200 = .ok (.getfield 267, 3) := dk_180 1 11 (dk_at dksX4_office_8 13 rfl rfl)
theorem dX4_office_203 : decode cX4_office 203 = .ok (.putfield 13, 3) := dk_181 0 13 (dk_at dksX4_office_8 16 rfl rfl)
theorem dX4_office_206 : decode cX4_office 206 = .ok (.aload_n 0, 1) := dk_42 (dk_at dksX4_office_8 19 rfl rfl)
theorem dX4_office_207 : decode cX4_office 207 = .ok (.aload_n 0, 1) := dk_42 (dk_at dksX4_office_8 20 rfl rfl)
theorem dX4_office_208 : decode cX4_office 208 = .ok (.getfield 41, 3) := dk_180 0 41 (dk_at dksX4_office_8 21 rfl rfl)
theorem dX4_office_211 : decode cX4_office 211 = .ok (.aload_n 0, 1) := dk_42 (dk_at dksX4_office_9 0 rfl rfl)
theorem dX4_office_212 : decode cX4_office 212 = .ok (.getfield 16, 3) := dk_180 0 16 (dk_at dksX4_office_9 1 rfl rfl)
theorem dX4_office_215 : decode cX4_office 215 = .ok (.invokevirtual 292, 3) := dk_182 1 36 (dk_at dksX4_office_9 4 rfl rfl)
theorem dX4_office_218 : decode cX4_office 218 = .ok (.aload_n 0, 1) := dk_42 (dk_at dksX4_office_9 7 rfl rfl)
theorem dX4_office_219 : decode cX4_office 219 = .ok (.aload_n 0, 1) := dk_42 (dk_at dksX4_office_9 8 rfl rfl)
theorem dX4_office_220 : decode cX4_office 220 = .ok (.getfield 44, 3) := dk_180 0 44 (dk_at dksX4_office_9 9 rfl rfl)
theorem dX4_office_223 : decode cX4_office 223 = .ok (.aload_n 0, 1) := dk_42 (dk_at dksX4_office_9 12 rfl rfl)
theorem dX4_office_224 : decode cX4_office 224 = .ok (.getfield 20, 3) := dk_180 0 20 (dk_at dksX4_office_9 13 rfl rfl)
theorem dX4_office_227 : decode cX4_office 227 = .ok (.invokevirtual 292, 3) := dk_182 1 36 (dk_at dksX4_office_9 16 rfl rfl)
theorem dX4_office_230 : decode cX4_office 230 = .ok (.aload_n 0, 1) := dk_42 (dk_at dksX4_office_9 19 rfl rfl)
theorem dX4_office_231 : decode cX4_office 231 = .ok (.aload_n 0, 1) := dk_42 (dk_at dksX4_office_9 20 rfl rfl)
theorem dX4_office_232 : decode cX4_office 232 = .ok (.getfield 47, 3) := dk_180 0 47 (dk_at dksX4_office_9 21 rfl rfl)
theorem dX4_office_235 : decode cX4_office 235 = .ok (.aload_n 0, 1) := dk_42 (dk_at dksX4_office_10 0 rfl rfl)
theorem dX4_office_236 : decode cX4_office 236 = .ok (.getfield 23, 3) := dk_180 0 23 (dk_at dksX4_office_10 1 rfl rfl)
theorem dX4_office_239 : decode cX4_office 239 = .ok (.invokevirtual 292, 3) := dk_182 1 36 (dk_at dksX4_office_10 4 rfl rfl)
theorem dX4_office_242 : decode cX4_office 242 = .ok (.aload_n 0, 1) := dk_42 (dk_at dksX4_office_10 7 rfl rfl)
theorem dX4_office_243 : decode cX4_office 243 = .ok (.aload_n 0, 1) := dk_42 (dk_at dksX4_office_10 8 rfl rfl)
theorem dX4_office_244 : decode cX4_office 244 = .ok (.getfield 50, 3) := dk_180 0 50 (dk_at dksX4_office_10 9 rfl rfl)
theorem dX4_office_247 : decode cX4_office 247 = .ok (.aload_n 0, 1) := dk_42 (dk_at dksX4_office_10 12 rfl rfl)
theorem dX4_office_248 : decode cX4_office 248 = .ok (.getfield 26, 3) := dk_180 0 26 (dk_at dksX4_office_10 13 rfl rfl)
theorem dX4_office_251 : decode cX4_office 251 = .ok (.invokevirtual 292, 3) := dk_182 1 36 (dk_at dksX4_office_10 16 rfl rfl)
theorem dX4_office_254 : decode cX4_office 254 = .ok (.aload_n 0, 1) := dk_42 (dk_at dksX4_office_10 19 rfl rfl)
theorem dX4_office_255 : decode cX4_office 255 = .ok (.aload_n 0, 1) := dk_42 (dk_at dksX4_office_10 20 rfl rfl)
theorem dX4_office_256 : decode cX4_office 256 = .ok (.getfield 56, 3) := dk_180 0 56 (dk_at dksX4_office_10 21 rfl rfl)
theorem dX4_office_259 : decode cX4_office 259 = .ok (.aload_n 0, 1) := dk_42 (dk_at dksX4_office_11 0 rfl rfl)
theorem dX4_office_260 : decode cX4_office 260 = .ok (.getfield 29, 3) := dk_180 0 29 (dk_at dksX4_office_11 1 rfl rfl)
theorem dX4_office_263 : decode cX4_office 263 = .ok (.invokevirtual 292, 3) := dk_182 1 36 (dk_at dksX4_office_11 4 rfl rfl)
theorem dX4_office_266 : decode cX4_office 266 = .ok (.iconst 0, 1) := dk_3 (dk_at dksX4_office_11 7 rfl rfl)
theorem dX4_office_267 : decode cX4_office 267 = .ok (.istore_n 2, 1) := dk_61 (dk_at dksX4_office_11 8 rfl rfl)
theorem dX4_office_268 : decode cX4_office 268 = .ok (.iload_n 2, 1) := dk_28 (dk_at dksX4_office_11 9 rfl rfl)
theorem dX4_office_269 : decode cX4_office 269 = .ok (.bipush 34, 2) := dk_16 34 (dk_at dksX4_office_11 10 rfl rfl)
theorem dX4_office_271 : decode cX4_office 271 = .ok (.if_icmp .ge 21, 3) := dk_162 0 21 (dk_at dksX4_office_11 12 rfl rfl)
theorem dX4_office_274 : decode cX4_office 274 = .ok (.aload_n 0, 1) := dk_42 (dk_at dksX4_office_11 15 rfl rfl)
theorem dX4_office_275 : decode cX4_office 275 = .ok (.getfield 66, 3) := dk_180 0 66 (dk_at dksX4_office_11 16 rfl rfl)
theorem dX4_office_278 : decode cX4_office 278 = .ok (.iload_n 2, 1) := dk_28 (dk_at dksX4_office_11 19 rfl rfl)
theorem dX4_office_279 : decode cX4_office 279 = .ok (.aload_n 0, 1) := dk_42 (dk_at dksX4_office_11 20 rfl rfl)
theorem dX4_office_280 : decode cX4_office 280 = .ok (.getfield 53, 3) := dk_180 0 53 (dk_at dksX4_office_11 21 rfl rfl)
theorem dX4_office_283 : decode cX4_office 283 = .ok (.iload_n 2, 1) := dk_28 (dk_at dksX4_office_12 0 rfl rfl)
theorem dX4_office_284 : decode cX4_office 284 = .ok (.iaload, 1) := dk_46 (dk_at dksX4_office_12 1 rfl rfl)
theorem dX4_office_285 : decode cX4_office 285 = .ok (.iastore, 1) := dk_79 (dk_at dksX4_office_12 2 rfl rfl)
theorem dX4_office_286 : decode cX4_office 286 = .ok (.iinc 2 1, 3) := dk_132 2 1 (dk_at dksX4_office_12 3 rfl rfl)
theorem dX4_office_289 : decode cX4_office 289 = .ok (.goto (-21), 3) := dk_167 255 235 (dk_at dksX4_office_12 6 rfl rfl)
theorem dX4_office_292 : decode cX4_office 292 = .ok (.aload_n 0, 1) := dk_42 (dk_at dksX4_office_12 9 rfl rfl)
theorem dX4_office_293 : decode cX4_office 293 = .ok (.iconst 0, 1) := dk_3 (dk_at dksX4_office_12 10 rfl rfl)
theorem dX4_office_294 : decode cX4_office 294 = .ok (.putfield 296, 3) := dk_181 1 40 (dk_at dksX4_office_12 11 rfl rfl)
theorem dX4_office_297 : decode cX4_office 297 = .ok (.aload_n 0, 1) := dk_42 (dk_at dksX4_office_12 14 rfl rfl)
theorem dX4_office_298 : decode cX4_office 298 = .ok (.iconst 0, 1) := dk_3 (dk_at dksX4_office_12 15 rfl rfl)
theorem dX4_office_299 : decode cX4_office 299 = .ok (.putfield 299, 3) := dk_181 1 43 (dk_at dksX4_office_12 16 rfl rfl)
theorem dX4_office_302 : decode cX4_office 302 = .ok (.aload_n 0, 1) := dk_42 (dk_at dksX4_office_12 19 rfl rfl)
theorem dX4_office_303 : decode cX4_office 303 = .ok (.iconst 0, 1) := dk_3 (dk_at dksX4_office_12 20 rfl rfl)
theorem dX4_office_304 : decode cX4_office 304 = .ok (.putfield 302, 3) := dk_181 1 46 (dk_at dksX4_office_12 21 rfl rfl)
theorem dX4_office_307 : decode cX4_office 307 = .ok (.iconst 0, 1) := dk_3 (dk_at dksX4_office_13 0 rfl rfl)
theorem dX4_office_308 : decode cX4_office 308 = .ok (.ireturn, 1) := dk_172 (dk_at dksX4_office_13 1 rfl rfl)
abbrev cX4_right : ByteArray := prog_12_method_3_code
def yX4_right : MethodName := ⟨RX4, "right", "(ZI)Z"⟩
def dkwX4_right_1 : List UInt8 := [167, 0, 4, 3, 172]
abbrev dktX4_right_1 : List UInt8 := dkwX4_right_1 ++ []
def dkwX4_right_0 : List UInt8 := [42, 180, 0, 102, 154, 0, 12, 27, 154, 0, 8, 42, 28, 181, 0, 102, 42, 180, 0, 102, 154, 0, 7, 4]
abbrev dktX4_right_0 : List UInt8 := dkwX4_right_0 ++ dktX4_right_1
theorem dksX4_right_0 : cX4_right.data.toList.drop 0 = dktX4_right_0 := by decide +kernel
theorem dksX4_right_1 : cX4_right.data.toList.drop 24 = dktX4_right_1 := dk_seg dksX4_right_0 24 rfl rfl
theorem dX4_right_0 : decode cX4_right 0 = .ok (.aload_n 0, 1) := dk_42 (dk_at dksX4_right_0 0 rfl rfl)
theorem dX4_right_1 : decode cX4_right 1 = .ok (.getfield 102, 3) := dk_180 0 102 (dk_at dksX4_right_0 1 rfl rfl)
theorem dX4_right_4 : decode cX4_right 4 = .ok (.ifCond .ne 12, 3) := dk_154 0 12 (dk_at dksX4_right_0 4 rfl rfl)
theorem dX4_right_7 : decode cX4_right 7 = .ok (.iload_n 1, 1) := dk_27 (dk_at dksX4_right_0 7 rfl rfl)
theorem dX4_right_8 : decode cX4_right 8 = .ok (.ifCond .ne 8, 3) := dk_154 0 8 (dk_at dksX4_right_0 8 rfl rfl)
theorem dX4_right_11 : decode cX4_right 11 = .ok (.aload_n 0, 1) := dk_42 (dk_at dksX4_right_0 11 rfl rfl)
theorem dX4_right_12 : decode cX4_right 12 = .ok (.iload_n 2, 1) := dk_28 (dk_at dksX4_right_0 12 rfl rfl)
theorem dX4_right_13 : decode cX4_right 13 = .ok (.putfield 102, 3) := dk_181 0 102 (dk_at dksX4_right_0 13 rfl rfl)
theorem dX4_right_16 : decode cX4_right 16 = .ok (.aload_n 0, 1) := dk_42 (dk_at dksX4_right_0 16 rfl rfl)
theorem dX4_right_17 : decode cX4_right 17 = .ok (.getfield 102, 3) := dk_180 0 102 (dk_at dksX4_right_0 17 rfl rfl)
theorem dX4_right_20 : decode cX4_right 20 = .ok (.ifCond .ne 7, 3) := dk_154 0 7 (dk_at dksX4_right_0 20 rfl rfl)
theorem dX4_right_23 : decode cX4_right 23 = .ok (.iconst 1, 1) := dk_4 (dk_at dksX4_right_0 23 rfl rfl)
theorem dX4_right_24 : decode cX4_right 24 = .ok (.goto 4, 3) := dk_167 0 4 (dk_at dksX4_right_1 0 rfl rfl)
theorem dX4_right_27 : decode cX4_right 27 = .ok (.iconst 0, 1) := dk_3 (dk_at dksX4_right_1 3 rfl rfl)
theorem dX4_right_28 : decode cX4_right 28 = .ok (.ireturn, 1) := dk_172 (dk_at dksX4_right_1 4 rfl rfl)
abbrev cX4_goes : ByteArray := prog_12_method_13_code
def yX4_goes : MethodName := ⟨RX4, "goes", "()V"⟩
def dkwX4_goes_14 : List UInt8 := [167, 0, 4, 7, 181, 0, 135, 42, 42, 180, 0, 115, 42, 180, 0, 122, 100, 181, 0, 145, 177]
abbrev dktX4_goes_14 : List UInt8 := dkwX4_goes_14 ++ []
def dkwX4_goes_13 : List UInt8 := [16, 42, 159, 0, 21, 27, 16, 47, 159, 0, 15, 27, 16, 60, 159, 0, 9, 27, 16, 61, 160, 0, 7, 6]
abbrev dktX4_goes_13 : List UInt8 := dkwX4_goes_13 ++ dktX4_goes_14
def dkwX4_goes_12 : List UInt8 := [16, 40, 159, 0, 45, 27, 16, 41, 159, 0, 39, 27, 16, 43, 159, 0, 33, 27, 16, 45, 159, 0, 27, 27]
abbrev dktX4_goes_12 : List UInt8 := dkwX4_goes_12 ++ dktX4_goes_13
def dkwX4_goes_11 : List UInt8 := [181, 0, 135, 167, 0, 76, 42, 89, 180, 0, 115, 4, 96, 181, 0, 115, 42, 27, 16, 59, 159, 0, 51, 27]
abbrev dktX4_goes_11 : List UInt8 := dkwX4_goes_11 ++ dktX4_goes_12
def dkwX4_goes_10 : List UInt8 := [96, 16, 48, 100, 181, 0, 129, 42, 89, 180, 0, 115, 4, 96, 181, 0, 115, 167, 255, 196, 42, 5]
abbrev dktX4_goes_10 : List UInt8 := dkwX4_goes_10 ++ dktX4_goes_11
def dkwX4_goes_9 : List UInt8 := [180, 0, 122, 100, 7, 162, 0, 26, 42, 16, 10, 42, 180, 0, 129, 104, 42, 42, 180, 0, 115, 182, 0, 118]
abbrev dktX4_goes_9 : List UInt8 := dkwX4_goes_9 ++ dktX4_goes_10
def dkwX4_goes_8 : List UInt8 := [153, 0, 74, 42, 42, 180, 0, 115, 182, 0, 118, 184, 0, 142, 153, 0, 52, 42, 180, 0, 115, 42]
abbrev dktX4_goes_8 : List UInt8 := dkwX4_goes_8 ++ dktX4_goes_9
def dkwX4_goes_7 : List UInt8 := [180, 0, 115, 4, 96, 181, 0, 115, 167, 255, 195, 42, 4, 181, 0, 135, 167, 0, 154, 27, 184, 0, 142]
abbrev dktX4_goes_7 : List UInt8 := dkwX4_goes_7 ++ dktX4_goes_8
def dkwX4_goes_6 : List UInt8 := [180, 0, 125, 8, 121, 42, 42, 180, 0, 115, 182, 0, 118, 16, 96, 100, 133, 129, 181, 0, 125, 42, 89]
abbrev dktX4_goes_6 : List UInt8 := dkwX4_goes_6 ++ dktX4_goes_7
def dkwX4_goes_5 : List UInt8 := [184, 0, 138, 153, 0, 53, 42, 180, 0, 115, 42, 180, 0, 122, 100, 16, 6, 162, 0, 26, 42, 42]
abbrev dktX4_goes_5 : List UInt8 := dkwX4_goes_5 ++ dktX4_goes_6
def dkwX4_goes_4 : List UInt8 := [3, 181, 0, 135, 167, 0, 233, 27, 184, 0, 138, 153, 0, 75, 42, 42, 180, 0, 115, 182, 0, 118]
abbrev dktX4_goes_4 : List UInt8 := dkwX4_goes_4 ++ dktX4_goes_5
def dkwX4_goes_3 : List UInt8 := [180, 0, 115, 182, 0, 118, 60, 42, 27, 181, 0, 132, 42, 180, 0, 115, 42, 180, 0, 112, 161, 0, 11, 42]
abbrev dktX4_goes_3 : List UInt8 := dkwX4_goes_3 ++ dktX4_goes_4
def dkwX4_goes_2 : List UInt8 := [167, 255, 209, 42, 42, 180, 0, 115, 181, 0, 122, 42, 9, 181, 0, 125, 42, 3, 181, 0, 129, 42, 42]
abbrev dktX4_goes_2 : List UInt8 := dkwX4_goes_2 ++ dktX4_goes_3
def dkwX4_goes_1 : List UInt8 := [42, 42, 180, 0, 115, 182, 0, 118, 16, 10, 160, 0, 16, 42, 89, 180, 0, 115, 4, 96, 181, 0, 115]
abbrev dktX4_goes_1 : List UInt8 := dkwX4_goes_1 ++ dktX4_goes_2
def dkwX4_goes_0 : List UInt8 := [42, 180, 0, 115, 42, 180, 0, 112, 162, 0, 42, 42, 42, 180, 0, 115, 182, 0, 118, 16, 32, 159, 0, 16]
abbrev dktX4_goes_0 : List UInt8 := dkwX4_goes_0 ++ dktX4_goes_1
theorem dksX4_goes_0 : cX4_goes.data.toList.drop 0 = dktX4_goes_0 := by decide +kernel
theorem dksX4_goes_1 : cX4_goes.data.toList.drop 24 = dktX4_goes_1 := dk_seg dksX4_goes_0 24 rfl rfl
theorem dksX4_goes_2 : cX4_goes.data.toList.drop 47 = dktX4_goes_2 := dk_seg dksX4_goes_1 23 rfl rfl
theorem dksX4_goes_3 : cX4_goes.data.toList.drop 70 = dktX4_goes_3 := dk_seg dksX4_goes_2 23 rfl rfl
theorem dksX4_goes_4 : cX4_goes.data.toList.drop 94 = dktX4_goes_4 := dk_seg dksX4_goes_3 24 rfl rfl
theorem dksX4_goes_5 : cX4_goes.data.toList.drop 116 = dktX4_goes_5 := dk_seg dksX4_goes_4 22 rfl rfl
theorem dksX4_goes_6 : cX4_goes.data.toList.drop 138 = dktX4_goes_6 := dk_seg dksX4_goes_5 22 rfl rfl
theorem dksX4_goes_7 : cX4_goes.data.toList.drop 161 = dktX4_goes_7 := dk_seg dksX4_goes_6 23 rfl rfl
theorem dksX4_goes_8 : cX4_goes.data.toList.drop 184 = dktX4_goes_8 := dk_seg dksX4_goes_7 23 rfl rfl
theorem dksX4_goes_9 : cX4_goes.data.toList.drop 206 = dktX4_goes_9 := dk_seg dksX4_goes_8 22 rfl rfl
theorem dksX4_goes_10 : cX4_goes.data.toList.drop 230 = dktX4_goes_10 := dk_seg dksX4_goes_9 24 rfl rfl
theorem dksX4_goes_11 : cX4_goes.data.toList.drop 252 = dktX4_goes_11 := dk_seg dksX4_goes_10 22 rfl rfl
theorem dksX4_goes_12 : cX4_goes.data.toList.drop 276 = dktX4_goes_12 := dk_seg dksX4_goes_11 24 rfl rfl
theorem dksX4_goes_13 : cX4_goes.data.toList.drop 300 = dktX4_goes_13 := dk_seg dksX4_goes_12 24 rfl rfl
theorem dksX4_goes_14 : cX4_goes.data.toList.drop 324 = dktX4_goes_14 := dk_seg dksX4_goes_13 24 rfl rfl
theorem dX4_goes_0 : decode cX4_goes 0 = .ok (.aload_n 0, 1) := dk_42 (dk_at dksX4_goes_0 0 rfl rfl)
theorem dX4_goes_1 : decode cX4_goes 1 = .ok (.getfield 115, 3) := dk_180 0 115 (dk_at dksX4_goes_0 1 rfl rfl)
theorem dX4_goes_4 : decode cX4_goes 4 = .ok (.aload_n 0, 1) := dk_42 (dk_at dksX4_goes_0 4 rfl rfl)
theorem dX4_goes_5 : decode cX4_goes 5 = .ok (.getfield 112, 3) := dk_180 0 112 (dk_at dksX4_goes_0 5 rfl rfl)
theorem dX4_goes_8 : decode cX4_goes 8 = .ok (.if_icmp .ge 42, 3) := dk_162 0 42 (dk_at dksX4_goes_0 8 rfl rfl)
theorem dX4_goes_11 : decode cX4_goes 11 = .ok (.aload_n 0, 1) := dk_42 (dk_at dksX4_goes_0 11 rfl rfl)
theorem dX4_goes_12 : decode cX4_goes 12 = .ok (.aload_n 0, 1) := dk_42 (dk_at dksX4_goes_0 12 rfl rfl)
theorem dX4_goes_13 : decode cX4_goes 13 = .ok (.getfield 115, 3) := dk_180 0 115 (dk_at dksX4_goes_0 13 rfl rfl)
theorem dX4_goes_16 : decode cX4_goes 16 = .ok (.invokevirtual 118, 3) := dk_182 0 118 (dk_at dksX4_goes_0 16 rfl rfl)
theorem dX4_goes_19 : decode cX4_goes 19 = .ok (.bipush 32, 2) := dk_16 32 (dk_at dksX4_goes_0 19 rfl rfl)
theorem dX4_goes_21 : decode cX4_goes 21 = .ok (.if_icmp .eq 16, 3) := dk_159 0 16 (dk_at dksX4_goes_0 21 rfl rfl)
theorem dX4_goes_24 : decode cX4_goes 24 = .ok (.aload_n 0, 1) := dk_42 (dk_at dksX4_goes_1 0 rfl rfl)
theorem dX4_goes_25 : decode cX4_goes 25 = .ok (.aload_n 0, 1) := dk_42 (dk_at dksX4_goes_1 1 rfl rfl)
theorem dX4_goes_26 : decode cX4_goes 26 = .ok (.getfield 115, 3) := dk_180 0 115 (dk_at dksX4_goes_1 2 rfl rfl)
theorem dX4_goes_29 : decode cX4_goes 29 = .ok (.invokevirtual 118, 3) := dk_182 0 118 (dk_at dksX4_goes_1 5 rfl rfl)
theorem dX4_goes_32 : decode cX4_goes 32 = .ok (.bipush 10, 2) := dk_16 10 (dk_at dksX4_goes_1 8 rfl rfl)
theorem dX4_goes_34 : decode cX4_goes 34 = .ok (.if_icmp .ne 16, 3) := dk_160 0 16 (dk_at dksX4_goes_1 10 rfl rfl)
theorem dX4_goes_37 : decode cX4_goes 37 = .ok (.aload_n 0, 1) := dk_42 (dk_at dksX4_goes_1 13 rfl rfl)
theorem dX4_goes_38 : decode cX4_goes 38 = .ok (.dup, 1) := dk_89 (dk_at dksX4_goes_1 14 rfl rfl)
theorem dX4_goes_39 : decode cX4_goes 39 = .ok (.getfield 115, 3) := dk_180 0 115 (dk_at dksX4_goes_1 15 rfl rfl)
theorem dX4_goes_42 : decode cX4_goes 42 = .ok (.iconst 1, 1) := dk_4 (dk_at dksX4_goes_1 18 rfl rfl)
theorem dX4_goes_43 : decode cX4_goes 43 = .ok (.iadd, 1) := dk_96 (dk_at dksX4_goes_1 19 rfl rfl)
theorem dX4_goes_44 : decode cX4_goes 44 = .ok (.putfield 115, 3) := dk_181 0 115 (dk_at dksX4_goes_1 20 rfl rfl)
theorem dX4_goes_47 : decode cX4_goes 47 = .ok (.goto (-47), 3) := dk_167 255 209 (dk_at dksX4_goes_2 0 rfl rfl)
theorem dX4_goes_50 : decode cX4_goes 50 = .ok (.aload_n 0, 1) := dk_42 (dk_at dksX4_goes_2 3 rfl rfl)
theorem dX4_goes_51 : decode cX4_goes 51 = .ok (.aload_n 0, 1) := dk_42 (dk_at dksX4_goes_2 4 rfl rfl)
theorem dX4_goes_52 : decode cX4_goes 52 = .ok (.getfield 115, 3) := dk_180 0 115 (dk_at dksX4_goes_2 5 rfl rfl)
theorem dX4_goes_55 : decode cX4_goes 55 = .ok (.putfield 122, 3) := dk_181 0 122 (dk_at dksX4_goes_2 8 rfl rfl)
theorem dX4_goes_58 : decode cX4_goes 58 = .ok (.aload_n 0, 1) := dk_42 (dk_at dksX4_goes_2 11 rfl rfl)
theorem dX4_goes_59 : decode cX4_goes 59 = .ok (.lconst 0, 1) := dk_9 (dk_at dksX4_goes_2 12 rfl rfl)
theorem dX4_goes_60 : decode cX4_goes 60 = .ok (.putfield 125, 3) := dk_181 0 125 (dk_at dksX4_goes_2 13 rfl rfl)
theorem dX4_goes_63 : decode cX4_goes 63 = .ok (.aload_n 0, 1) := dk_42 (dk_at dksX4_goes_2 16 rfl rfl)
theorem dX4_goes_64 : decode cX4_goes 64 = .ok (.iconst 0, 1) := dk_3 (dk_at dksX4_goes_2 17 rfl rfl)
theorem dX4_goes_65 : decode cX4_goes 65 = .ok (.putfield 129, 3) := dk_181 0 129 (dk_at dksX4_goes_2 18 rfl rfl)
theorem dX4_goes_68 : decode cX4_goes 68 = .ok (.aload_n 0, 1) := dk_42 (dk_at dksX4_goes_2 21 rfl rfl)
theorem dX4_goes_69 : decode cX4_goes 69 = .ok (.aload_n 0, 1) := dk_42 (dk_at dksX4_goes_2 22 rfl rfl)
theorem dX4_goes_70 : decode cX4_goes 70 = .ok (.getfield 115, 3) := dk_180 0 115 (dk_at dksX4_goes_3 0 rfl rfl)
theorem dX4_goes_73 : decode cX4_goes 73 = .ok (.invokevirtual 118, 3) := dk_182 0 118 (dk_at dksX4_goes_3 3 rfl rfl)
theorem dX4_goes_76 : decode cX4_goes 76 = .ok (.istore_n 1, 1) := dk_60 (dk_at dksX4_goes_3 6 rfl rfl)
theorem dX4_goes_77 : decode cX4_goes 77 = .ok (.aload_n 0, 1) := dk_42 (dk_at dksX4_goes_3 7 rfl rfl)
theorem dX4_goes_78 : decode cX4_goes 78 = .ok (.iload_n 1, 1) := dk_27 (dk_at dksX4_goes_3 8 rfl rfl)
theorem dX4_goes_79 : decode cX4_goes 79 = .ok (.putfield 132, 3) := dk_181 0 132 (dk_at dksX4_goes_3 9 rfl rfl)
theorem dX4_goes_82 : decode cX4_goes 82 = .ok (.aload_n 0, 1) := dk_42 (dk_at dksX4_goes_3 12 rfl rfl)
theorem dX4_goes_83 : decode cX4_goes 83 = .ok (.getfield 115, 3) := dk_180 0 115 (dk_at dksX4_goes_3 13 rfl rfl)
theorem dX4_goes_86 : decode cX4_goes 86 = .ok (.aload_n 0, 1) := dk_42 (dk_at dksX4_goes_3 16 rfl rfl)
theorem dX4_goes_87 : decode cX4_goes 87 = .ok (.getfield 112, 3) := dk_180 0 112 (dk_at dksX4_goes_3 17 rfl rfl)
theorem dX4_goes_90 : decode cX4_goes 90 = .ok (.if_icmp .lt 11, 3) := dk_161 0 11 (dk_at dksX4_goes_3 20 rfl rfl)
theorem dX4_goes_93 : decode cX4_goes 93 = .ok (.aload_n 0, 1) := dk_42 (dk_at dksX4_goes_3 23 rfl rfl)
theorem dX4_goes_94 : decode cX4_goes 94 = .ok (.iconst 0, 1) := dk_3 (dk_at dksX4_goes_4 0 rfl rfl)
theorem dX4_goes_95 : decode cX4_goes 95 = .ok (.putfield 135, 3) := dk_181 0 135 (dk_at dksX4_goes_4 1 rfl rfl)
theorem dX4_goes_98 : decode cX4_goes 98 = .ok (.goto 233, 3) := dk_167 0 233 (dk_at dksX4_goes_4 4 rfl rfl)
theorem dX4_goes_101 : decode cX4_goes 101 = .ok (.iload_n 1, 1) := dk_27 (dk_at dksX4_goes_4 7 rfl rfl)
theorem dX4_goes_102 : decode cX4_goes 102 = .ok (.invokestatic 138, 3) := dk_184 0 138 (dk_at dksX4_goes_4 8 rfl rfl)
theorem dX4_goes_105 : decode cX4_goes 105 = .ok (.ifCond .eq 75, 3) := dk_153 0 75 (dk_at dksX4_goes_4 11 rfl rfl)
theorem dX4_goes_108 : decode cX4_goes 108 = .ok (.aload_n 0, 1) := dk_42 (dk_at dksX4_goes_4 14 rfl rfl)
theorem dX4_goes_109 : decode cX4_goes 109 = .ok (.aload_n 0, 1) := dk_42 (dk_at dksX4_goes_4 15 rfl rfl)
theorem dX4_goes_110 : decode cX4_goes 110 = .ok (.getfield 115, 3) := dk_180 0 115 (dk_at dksX4_goes_4 16 rfl rfl)
theorem dX4_goes_113 : decode cX4_goes 113 = .ok (.invokevirtual 118, 3) := dk_182 0 118 (dk_at dksX4_goes_4 19 rfl rfl)
theorem dX4_goes_116 : decode cX4_goes 116 = .ok (.invokestatic 138, 3) := dk_184 0 138 (dk_at dksX4_goes_5 0 rfl rfl)
theorem dX4_goes_119 : decode cX4_goes 119 = .ok (.ifCond .eq 53, 3) := dk_153 0 53 (dk_at dksX4_goes_5 3 rfl rfl)
theorem dX4_goes_122 : decode cX4_goes 122 = .ok (.aload_n 0, 1) := dk_42 (dk_at dksX4_goes_5 6 rfl rfl)
theorem dX4_goes_123 : decode cX4_goes 123 = .ok (.getfield 115, 3) := dk_180 0 115 (dk_at dksX4_goes_5 7 rfl rfl)
theorem dX4_goes_126 : decode cX4_goes 126 = .ok (.aload_n 0, 1) := dk_42 (dk_at dksX4_goes_5 10 rfl rfl)
theorem dX4_goes_127 : decode cX4_goes 127 = .ok (.getfield 122, 3) := dk_180 0 122 (dk_at dksX4_goes_5 11 rfl rfl)
theorem dX4_goes_130 : decode cX4_goes 130 = .ok (.isub, 1) := dk_100 (dk_at dksX4_goes_5 14 rfl rfl)
theorem dX4_goes_131 : decode cX4_goes 131 = .ok (.bipush 6, 2) := dk_16 6 (dk_at dksX4_goes_5 15 rfl rfl)
theorem dX4_goes_133 : decode cX4_goes 133 = .ok (.if_icmp .ge 26, 3) := dk_162 0 26 (dk_at dksX4_goes_5 17 rfl rfl)
theorem dX4_goes_136 : decode cX4_goes 136 = .ok (.aload_n 0, 1) := dk_42 (dk_at dksX4_goes_5 20 rfl rfl)
theorem dX4_goes_137 : decode cX4_goes 137 = .ok (.aload_n 0, 1) := dk_42 (dk_at dksX4_goes_5 21 rfl rfl)
theorem dX4_goes_138 : decode cX4_goes 138 = .ok (.getfield 125, 3) := dk_180 0 125 (dk_at dksX4_goes_6 0 rfl rfl)
theorem dX4_goes_141 : decode cX4_goes 141 = .ok (.iconst 5, 1) := dk_8 (dk_at dksX4_goes_6 3 rfl rfl)
theorem dX4_goes_142 : decode cX4_goes 142 = .ok (.lshl, 1) := dk_121 (dk_at dksX4_goes_6 4 rfl rfl)
theorem dX4_goes_143 : decode cX4_goes 143 = .ok (.aload_n 0, 1) := dk_42 (dk_at dksX4_goes_6 5 rfl rfl)
theorem dX4_goes_144 : decode cX4_goes 144 = .ok (.aload_n 0, 1) := dk_42 (dk_at dksX4_goes_6 6 rfl rfl)
theorem dX4_goes_145 : decode cX4_goes 145 = .ok (.getfield 115, 3) := dk_180 0 115 (dk_at dksX4_goes_6 7 rfl rfl)
theorem dX4_goes_148 : decode cX4_goes 148 = .ok (.invokevirtual 118, 3) := dk_182 0 118 (dk_at dksX4_goes_6 10 rfl rfl)
theorem dX4_goes_151 : decode cX4_goes 151 = .ok (.bipush 96, 2) := dk_16 96 (dk_at dksX4_goes_6 13 rfl rfl)
theorem dX4_goes_153 : decode cX4_goes 153 = .ok (.isub, 1) := dk_100 (dk_at dksX4_goes_6 15 rfl rfl)
theorem dX4_goes_154 : decode cX4_goes 154 = .ok (.i2l, 1) := dk_133 (dk_at dksX4_goes_6 16 rfl rfl)
theorem dX4_goes_155 : decode cX4_goes 155 = .ok (.lor, 1) := dk_129 (dk_at dksX4_goes_6 17 rfl rfl)
theorem dX4_goes_156 : decode cX4_goes 156 = .ok (.putfield 125, 3) := dk_181 0 125 (dk_at dksX4_goes_6 18 rfl rfl)
theorem dX4_goes_159 : decode cX4_goes 159 = .ok (.aload_n 0, 1) := dk_42 (dk_at dksX4_goes_6 21 rfl rfl)
theorem dX4_goes_160 : decode cX4_goes 160 = .ok (.dup, 1) := dk_89 (dk_at dksX4_goes_6 22 rfl rfl)
theorem dX4_goes_161 : decode cX4_goes 161 = .ok (.getfield 115, 3) := dk_180 0 115 (dk_at dksX4_goes_7 0 rfl rfl)
theorem dX4_goes_164 : decode cX4_goes 164 = .ok (.iconst 1, 1) := dk_4 (dk_at dksX4_goes_7 3 rfl rfl)
theorem dX4_goes_165 : decode cX4_goes 165 = .ok (.iadd, 1) := dk_96 (dk_at dksX4_goes_7 4 rfl rfl)
theorem dX4_goes_166 : decode cX4_goes 166 = .ok (.putfield 115, 3) := dk_181 0 115 (dk_at dksX4_goes_7 5 rfl rfl)
theorem dX4_goes_169 : decode cX4_goes 169 = .ok (.goto (-61), 3) := dk_167 255 195 (dk_at dksX4_goes_7 8 rfl rfl)
theorem dX4_goes_172 : decode cX4_goes 172 = .ok (.aload_n 0, 1) := dk_42 (dk_at dksX4_goes_7 11 rfl rfl)
theorem dX4_goes_173 : decode cX4_goes 173 = .ok (.iconst 1, 1) := dk_4 (dk_at dksX4_goes_7 12 rfl rfl)
theorem dX4_goes_174 : decode cX4_goes 174 = .ok (.putfield 135, 3) := dk_181 0 135 (dk_at dksX4_goes_7 13 rfl rfl)
theorem dX4_goes_177 : decode cX4_goes 177 = .ok (.goto 154, 3) := dk_167 0 154 (dk_at dksX4_goes_7 16 rfl rfl)
theorem dX4_goes_180 : decode cX4_goes 180 = .ok (.iload_n 1, 1) := dk_27 (dk_at dksX4_goes_7 19 rfl rfl)
theorem dX4_goes_181 : decode cX4_goes 181 = .ok (.invokestatic 142, 3) := dk_184 0 142 (dk_at dksX4_goes_7 20 rfl rfl)
theorem dX4_goes_184 : decode cX4_goes 184 = .ok (.ifCond .eq 74, 3) := dk_153 0 74 (dk_at dksX4_goes_8 0 rfl rfl)
theorem dX4_goes_187 : decode cX4_goes 187 = .ok (.aload_n 0, 1) := dk_42 (dk_at dksX4_goes_8 3 rfl rfl)
theorem dX4_goes_188 : decode cX4_goes 188 = .ok (.aload_n 0, 1) := dk_42 (dk_at dksX4_goes_8 4 rfl rfl)
theorem dX4_goes_189 : decode cX4_goes 189 = .ok (.getfield 115, 3) := dk_180 0 115 (dk_at dksX4_goes_8 5 rfl rfl)
theorem dX4_goes_192 : decode cX4_goes 192 = .ok (.invokevirtual 118, 3) := dk_182 0 118 (dk_at dksX4_goes_8 8 rfl rfl)
theorem dX4_goes_195 : decode cX4_goes 195 = .ok (.invokestatic 142, 3) := dk_184 0 142 (dk_at dksX4_goes_8 11 rfl rfl)
theorem dX4_goes_198 : decode cX4_goes 198 = .ok (.ifCond .eq 52, 3) := dk_153 0 52 (dk_at dksX4_goes_8 14 rfl rfl)
theorem dX4_goes_201 : decode cX4_goes 201 = .ok (.aload_n 0, 1) := dk_42 (dk_at dksX4_goes_8 17 rfl rfl)
theorem dX4_goes_202 : decode cX4_goes 202 = .ok (.getfield 115, 3) := dk_180 0 115 (dk_at dksX4_goes_8 18 rfl rfl)
theorem dX4_goes_205 : decode cX4_goes 205 = .ok (.aload_n 0, 1) := dk_42 (dk_at dksX4_goes_8 21 rfl rfl)
theorem dX4_goes_206 : decode cX4_goes 206 = .ok (.getfield 122, 3) := dk_180 0 122 (dk_at dksX4_goes_9 0 rfl rfl)
theorem dX4_goes_209 : decode cX4_goes 209 = .ok (.isub, 1) := dk_100 (dk_at dksX4_goes_9 3 rfl rfl)
theorem dX4_goes_210 : decode cX4_goes 210 = .ok (.iconst 4, 1) := dk_7 (dk_at dksX4_goes_9 4 rfl rfl)
theorem dX4_goes_211 : decode cX4_goes 211 = .ok (.if_icmp .ge 26, 3) := dk_162 0 26 (dk_at dksX4_goes_9 5 rfl rfl)
theorem dX4_goes_214 : decode cX4_goes 214 = .ok (.aload_n 0, 1) := dk_42 (dk_at dksX4_goes_9 8 rfl rfl)
theorem dX4_goes_215 : decode cX4_goes 215 = .ok (.bipush 10, 2) := dk_16 10 (dk_at dksX4_goes_9 9 rfl rfl)
theorem dX4_goes_217 : decode cX4_goes 217 = .ok (.aload_n 0, 1) := dk_42 (dk_at dksX4_goes_9 11 rfl rfl)
theorem dX4_goes_218 : decode cX4_goes 218 = .ok (.getfield 129, 3) := dk_180 0 129 (dk_at dksX4_goes_9 12 rfl rfl)
theorem dX4_goes_221 : decode cX4_goes 221 = .ok (.imul, 1) := dk_104 (dk_at dksX4_goes_9 15 rfl rfl)
theorem dX4_goes_222 : decode cX4_goes 222 = .ok (.aload_n 0, 1) := dk_42 (dk_at dksX4_goes_9 16 rfl rfl)
theorem dX4_goes_223 : decode cX4_goes 223 = .ok (.aload_n 0, 1) := dk_42 (dk_at dksX4_goes_9 17 rfl rfl)
theorem dX4_goes_224 : decode cX4_goes 224 = .ok (.getfield 115, 3) := dk_180 0 115 (dk_at dksX4_goes_9 18 rfl rfl)
theorem dX4_goes_227 : decode cX4_goes 227 = .ok (.invokevirtual 118, 3) := dk_182 0 118 (dk_at dksX4_goes_9 21 rfl rfl)
theorem dX4_goes_230 : decode cX4_goes 230 = .ok (.iadd, 1) := dk_96 (dk_at dksX4_goes_10 0 rfl rfl)
theorem dX4_goes_231 : decode cX4_goes 231 = .ok (.bipush 48, 2) := dk_16 48 (dk_at dksX4_goes_10 1 rfl rfl)
theorem dX4_goes_233 : decode cX4_goes 233 = .ok (.isub, 1) := dk_100 (dk_at dksX4_goes_10 3 rfl rfl)
theorem dX4_goes_234 : decode cX4_goes 234 = .ok (.putfield 129, 3) := dk_181 0 129 (dk_at dksX4_goes_10 4 rfl rfl)
theorem dX4_goes_237 : decode cX4_goes 237 = .ok (.aload_n 0, 1) := dk_42 (dk_at dksX4_goes_10 7 rfl rfl)
theorem dX4_goes_238 : decode cX4_goes 238 = .ok (.dup, 1) := dk_89 (dk_at dksX4_goes_10 8 rfl rfl)
theorem dX4_goes_239 : decode cX4_goes 239 = .ok (.getfield 115, 3) := dk_180 0 115 (dk_at dksX4_goes_10 9 rfl rfl)
theorem dX4_goes_242 : decode cX4_goes 242 = .ok (.iconst 1, 1) := dk_4 (dk_at dksX4_goes_10 12 rfl rfl)
theorem dX4_goes_243 : decode cX4_goes 243 = .ok (.iadd, 1) := dk_96 (dk_at dksX4_goes_10 13 rfl rfl)
theorem dX4_goes_244 : decode cX4_goes 244 = .ok (.putfield 115, 3) := dk_181 0 115 (dk_at dksX4_goes_10 14 rfl rfl)
theorem dX4_goes_247 : decode cX4_goes 247 = .ok (.goto (-60), 3) := dk_167 255 196 (dk_at dksX4_goes_10 17 rfl rfl)
theorem dX4_goes_250 : decode cX4_goes 250 = .ok (.aload_n 0, 1) := dk_42 (dk_at dksX4_goes_10 20 rfl rfl)
theorem dX4_goes_251 : decode cX4_goes 251 = .ok (.iconst 2, 1) := dk_5 (dk_at dksX4_goes_10 21 rfl rfl)
theorem dX4_goes_252 : decode cX4_goes 252 = .ok (.putfield 135, 3) := dk_181 0 135 (dk_at dksX4_goes_11 0 rfl rfl)
theorem dX4_goes_255 : decode cX4_goes 255 = .ok (.goto 76, 3) := dk_167 0 76 (dk_at dksX4_goes_11 3 rfl rfl)
theorem dX4_goes_258 : decode cX4_goes 258 = .ok (.aload_n 0, 1) := dk_42 (dk_at dksX4_goes_11 6 rfl rfl)
theorem dX4_goes_259 : decode cX4_goes 259 = .ok (.dup, 1) := dk_89 (dk_at dksX4_goes_11 7 rfl rfl)
theorem dX4_goes_260 : decode cX4_goes 260 = .ok (.getfield 115, 3) := dk_180 0 115 (dk_at dksX4_goes_11 8 rfl rfl)
theorem dX4_goes_263 : decode cX4_goes 263 = .ok (.iconst 1, 1) := dk_4 (dk_at dksX4_goes_11 11 rfl rfl)
theorem dX4_goes_264 : decode cX4_goes 264 = .ok (.iadd, 1) := dk_96 (dk_at dksX4_goes_11 12 rfl rfl)
theorem dX4_goes_265 : decode cX4_goes 265 = .ok (.putfield 115, 3) := dk_181 0 115 (dk_at dksX4_goes_11 13 rfl rfl)
theorem dX4_goes_268 : decode cX4_goes 268 = .ok (.aload_n 0, 1) := dk_42 (dk_at dksX4_goes_11 16 rfl rfl)
theorem dX4_goes_269 : decode cX4_goes 269 = .ok (.iload_n 1, 1) := dk_27 (dk_at dksX4_goes_11 17 rfl rfl)
theorem dX4_goes_270 : decode cX4_goes 270 = .ok (.bipush 59, 2) := dk_16 59 (dk_at dksX4_goes_11 18 rfl rfl)
theorem dX4_goes_272 : decode cX4_goes 272 = .ok (.if_icmp .eq 51, 3) := dk_159 0 51 (dk_at dksX4_goes_11 20 rfl rfl)
theorem dX4_goes_275 : decode cX4_goes 275 = .ok (.iload_n 1, 1) := dk_27 (dk_at dksX4_goes_11 23 rfl rfl)
theorem dX4_goes_276 : decode cX4_goes 276 = .ok (.bipush 40, 2) := dk_16 40 (dk_at dksX4_goes_12 0 rfl rfl)
theorem dX4_goes_278 : decode cX4_goes 278 = .ok (.if_icmp .eq 45, 3) := dk_159 0 45 (dk_at dksX4_goes_12 2 rfl rfl)
theorem dX4_goes_281 : decode cX4_goes 281 = .ok (.iload_n 1, 1) := dk_27 (dk_at dksX4_goes_12 5 rfl rfl)
theorem dX4_goes_282 : decode cX4_goes 282 = .ok (.bipush 41, 2) := dk_16 41 (dk_at dksX4_goes_12 6 rfl rfl)
theorem dX4_goes_284 : decode cX4_goes 284 = .ok (.if_icmp .eq 39, 3) := dk_159 0 39 (dk_at dksX4_goes_12 8 rfl rfl)
theorem dX4_goes_287 : decode cX4_goes 287 = .ok (.iload_n 1, 1) := dk_27 (dk_at dksX4_goes_12 11 rfl rfl)
theorem dX4_goes_288 : decode cX4_goes 288 = .ok (.bipush 43, 2) := dk_16 43 (dk_at dksX4_goes_12 12 rfl rfl)
theorem dX4_goes_290 : decode cX4_goes 290 = .ok (.if_icmp .eq 33, 3) := dk_159 0 33 (dk_at dksX4_goes_12 14 rfl rfl)
theorem dX4_goes_293 : decode cX4_goes 293 = .ok (.iload_n 1, 1) := dk_27 (dk_at dksX4_goes_12 17 rfl rfl)
theorem dX4_goes_294 : decode cX4_goes 294 = .ok (.bipush 45, 2) := dk_16 45 (dk_at dksX4_goes_12 18 rfl rfl)
theorem dX4_goes_296 : decode cX4_goes 296 = .ok (.if_icmp .eq 27, 3) := dk_159 0 27 (dk_at dksX4_goes_12 20 rfl rfl)
theorem dX4_goes_299 : decode cX4_goes 299 = .ok (.iload_n 1, 1) := dk_27 (dk_at dksX4_goes_12 23 rfl rfl)
theorem dX4_goes_300 : decode cX4_goes 300 = .ok (.bipush 42, 2) := dk_16 42 (dk_at dksX4_goes_13 0 rfl rfl)
theorem dX4_goes_302 : decode cX4_goes 302 = .ok (.if_icmp .eq 21, 3) := dk_159 0 21 (dk_at dksX4_goes_13 2 rfl rfl)
theorem dX4_goes_305 : decode cX4_goes 305 = .ok (.iload_n 1, 1) := dk_27 (dk_at dksX4_goes_13 5 rfl rfl)
theorem dX4_goes_306 : decode cX4_goes 306 = .ok (.bipush 47, 2) := dk_16 47 (dk_at dksX4_goes_13 6 rfl rfl)
theorem dX4_goes_308 : decode cX4_goes 308 = .ok (.if_icmp .eq 15, 3) := dk_159 0 15 (dk_at dksX4_goes_13 8 rfl rfl)
theorem dX4_goes_311 : decode cX4_goes 311 = .ok (.iload_n 1, 1) := dk_27 (dk_at dksX4_goes_13 11 rfl rfl)
theorem dX4_goes_312 : decode cX4_goes 312 = .ok (.bipush 60, 2) := dk_16 60 (dk_at dksX4_goes_13 12 rfl rfl)
theorem dX4_goes_314 : decode cX4_goes 314 = .ok (.if_icmp .eq 9, 3) := dk_159 0 9 (dk_at dksX4_goes_13 14 rfl rfl)
theorem dX4_goes_317 : decode cX4_goes 317 = .ok (.iload_n 1, 1) := dk_27 (dk_at dksX4_goes_13 17 rfl rfl)
theorem dX4_goes_318 : decode cX4_goes 318 = .ok (.bipush 61, 2) := dk_16 61 (dk_at dksX4_goes_13 18 rfl rfl)
theorem dX4_goes_320 : decode cX4_goes 320 = .ok (.if_icmp .ne 7, 3) := dk_160 0 7 (dk_at dksX4_goes_13 20 rfl rfl)
theorem dX4_goes_323 : decode cX4_goes 323 = .ok (.iconst 3, 1) := dk_6 (dk_at dksX4_goes_13 23 rfl rfl)
theorem dX4_goes_324 : decode cX4_goes 324 = .ok (.goto 4, 3) := dk_167 0 4 (dk_at dksX4_goes_14 0 rfl rfl)
theorem dX4_goes_327 : decode cX4_goes 327 = .ok (.iconst 4, 1) := dk_7 (dk_at dksX4_goes_14 3 rfl rfl)
theorem dX4_goes_328 : decode cX4_goes 328 = .ok (.putfield 135, 3) := dk_181 0 135 (dk_at dksX4_goes_14 4 rfl rfl)
theorem dX4_goes_331 : decode cX4_goes 331 = .ok (.aload_n 0, 1) := dk_42 (dk_at dksX4_goes_14 7 rfl rfl)
theorem dX4_goes_332 : decode cX4_goes 332 = .ok (.aload_n 0, 1) := dk_42 (dk_at dksX4_goes_14 8 rfl rfl)
theorem dX4_goes_333 : decode cX4_goes 333 = .ok (.getfield 115, 3) := dk_180 0 115 (dk_at dksX4_goes_14 9 rfl rfl)
theorem dX4_goes_336 : decode cX4_goes 336 = .ok (.aload_n 0, 1) := dk_42 (dk_at dksX4_goes_14 12 rfl rfl)
theorem dX4_goes_337 : decode cX4_goes 337 = .ok (.getfield 122, 3) := dk_180 0 122 (dk_at dksX4_goes_14 13 rfl rfl)
theorem dX4_goes_340 : decode cX4_goes 340 = .ok (.isub, 1) := dk_100 (dk_at dksX4_goes_14 16 rfl rfl)
theorem dX4_goes_341 : decode cX4_goes 341 = .ok (.putfield 145, 3) := dk_181 0 145 (dk_at dksX4_goes_14 17 rfl rfl)
theorem dX4_goes_344 : decode cX4_goes 344 = .ok (.return_, 1) := dk_177 (dk_at dksX4_goes_14 20 rfl rfl)
abbrev cX4_byteAt : ByteArray := prog_12_method_10_code
def yX4_byteAt : MethodName := ⟨RX4, "byteAt", "(I)I"⟩
def dkwX4_byteAt_0 : List UInt8 := [27, 42, 180, 0, 112, 162, 0, 12, 42, 180, 0, 32, 27, 46, 167, 0, 4, 3, 172]
abbrev dktX4_byteAt_0 : List UInt8 := dkwX4_byteAt_0 ++ []
theorem dksX4_byteAt_0 : cX4_byteAt.data.toList.drop 0 = dktX4_byteAt_0 := by decide +kernel
theorem dX4_byteAt_0 : decode cX4_byteAt 0 = .ok (.iload_n 1, 1) := dk_27 (dk_at dksX4_byteAt_0 0 rfl rfl)
theorem dX4_byteAt_1 : decode cX4_byteAt 1 = .ok (.aload_n 0, 1) := dk_42 (dk_at dksX4_byteAt_0 1 rfl rfl)
theorem dX4_byteAt_2 : decode cX4_byteAt 2 = .ok (.getfield 112, 3) := dk_180 0 112 (dk_at dksX4_byteAt_0 2 rfl rfl)
theorem dX4_byteAt_5 : decode cX4_byteAt 5 = .ok (.if_icmp .ge 12, 3) := dk_162 0 12 (dk_at dksX4_byteAt_0 5 rfl rfl)
theorem dX4_byteAt_8 : decode cX4_byteAt 8 = .ok (.aload_n 0, 1) := dk_42 (dk_at dksX4_byteAt_0 8 rfl rfl)
theorem dX4_byteAt_9 : decode cX4_byteAt 9 = .ok (.getfield 32, 3) := dk_180 0 32 (dk_at dksX4_byteAt_0 9 rfl rfl)
theorem dX4_byteAt_12 : decode cX4_byteAt 12 = .ok (.iload_n 1, 1) := dk_27 (dk_at dksX4_byteAt_0 12 rfl rfl)
theorem dX4_byteAt_13 : decode cX4_byteAt 13 = .ok (.iaload, 1) := dk_46 (dk_at dksX4_byteAt_0 13 rfl rfl)
theorem dX4_byteAt_14 : decode cX4_byteAt 14 = .ok (.goto 4, 3) := dk_167 0 4 (dk_at dksX4_byteAt_0 14 rfl rfl)
theorem dX4_byteAt_17 : decode cX4_byteAt 17 = .ok (.iconst 0, 1) := dk_3 (dk_at dksX4_byteAt_0 17 rfl rfl)
theorem dX4_byteAt_18 : decode cX4_byteAt 18 = .ok (.ireturn, 1) := dk_172 (dk_at dksX4_byteAt_0 18 rfl rfl)
abbrev cX4_isLetter : ByteArray := prog_12_method_11_code
def yX4_isLetter : MethodName := ⟨RX4, "isLetter", "(I)Z"⟩
def dkwX4_isLetter_0 : List UInt8 := [26, 16, 97, 161, 0, 13, 26, 16, 122, 163, 0, 7, 4, 167, 0, 4, 3, 172]
abbrev dktX4_isLetter_0 : List UInt8 := dkwX4_isLetter_0 ++ []
theorem dksX4_isLetter_0 : cX4_isLetter.data.toList.drop 0 = dktX4_isLetter_0 := by decide +kernel
theorem dX4_isLetter_0 : decode cX4_isLetter 0 = .ok (.iload_n 0, 1) := dk_26 (dk_at dksX4_isLetter_0 0 rfl rfl)
theorem dX4_isLetter_1 : decode cX4_isLetter 1 = .ok (.bipush 97, 2) := dk_16 97 (dk_at dksX4_isLetter_0 1 rfl rfl)
theorem dX4_isLetter_3 : decode cX4_isLetter 3 = .ok (.if_icmp .lt 13, 3) := dk_161 0 13 (dk_at dksX4_isLetter_0 3 rfl rfl)
theorem dX4_isLetter_6 : decode cX4_isLetter 6 = .ok (.iload_n 0, 1) := dk_26 (dk_at dksX4_isLetter_0 6 rfl rfl)
theorem dX4_isLetter_7 : decode cX4_isLetter 7 = .ok (.bipush 122, 2) := dk_16 122 (dk_at dksX4_isLetter_0 7 rfl rfl)
theorem dX4_isLetter_9 : decode cX4_isLetter 9 = .ok (.if_icmp .gt 7, 3) := dk_163 0 7 (dk_at dksX4_isLetter_0 9 rfl rfl)
theorem dX4_isLetter_12 : decode cX4_isLetter 12 = .ok (.iconst 1, 1) := dk_4 (dk_at dksX4_isLetter_0 12 rfl rfl)
theorem dX4_isLetter_13 : decode cX4_isLetter 13 = .ok (.goto 4, 3) := dk_167 0 4 (dk_at dksX4_isLetter_0 13 rfl rfl)
theorem dX4_isLetter_16 : decode cX4_isLetter 16 = .ok (.iconst 0, 1) := dk_3 (dk_at dksX4_isLetter_0 16 rfl rfl)
theorem dX4_isLetter_17 : decode cX4_isLetter 17 = .ok (.ireturn, 1) := dk_172 (dk_at dksX4_isLetter_0 17 rfl rfl)
abbrev cX4_isDigit : ByteArray := prog_12_method_12_code
def yX4_isDigit : MethodName := ⟨RX4, "isDigit", "(I)Z"⟩
def dkwX4_isDigit_0 : List UInt8 := [26, 16, 48, 161, 0, 13, 26, 16, 57, 163, 0, 7, 4, 167, 0, 4, 3, 172]
abbrev dktX4_isDigit_0 : List UInt8 := dkwX4_isDigit_0 ++ []
theorem dksX4_isDigit_0 : cX4_isDigit.data.toList.drop 0 = dktX4_isDigit_0 := by decide +kernel
theorem dX4_isDigit_0 : decode cX4_isDigit 0 = .ok (.iload_n 0, 1) := dk_26 (dk_at dksX4_isDigit_0 0 rfl rfl)
theorem dX4_isDigit_1 : decode cX4_isDigit 1 = .ok (.bipush 48, 2) := dk_16 48 (dk_at dksX4_isDigit_0 1 rfl rfl)
theorem dX4_isDigit_3 : decode cX4_isDigit 3 = .ok (.if_icmp .lt 13, 3) := dk_161 0 13 (dk_at dksX4_isDigit_0 3 rfl rfl)
theorem dX4_isDigit_6 : decode cX4_isDigit 6 = .ok (.iload_n 0, 1) := dk_26 (dk_at dksX4_isDigit_0 6 rfl rfl)
theorem dX4_isDigit_7 : decode cX4_isDigit 7 = .ok (.bipush 57, 2) := dk_16 57 (dk_at dksX4_isDigit_0 7 rfl rfl)
theorem dX4_isDigit_9 : decode cX4_isDigit 9 = .ok (.if_icmp .gt 7, 3) := dk_163 0 7 (dk_at dksX4_isDigit_0 9 rfl rfl)
theorem dX4_isDigit_12 : decode cX4_isDigit 12 = .ok (.iconst 1, 1) := dk_4 (dk_at dksX4_isDigit_0 12 rfl rfl)
theorem dX4_isDigit_13 : decode cX4_isDigit 13 = .ok (.goto 4, 3) := dk_167 0 4 (dk_at dksX4_isDigit_0 13 rfl rfl)
theorem dX4_isDigit_16 : decode cX4_isDigit 16 = .ok (.iconst 0, 1) := dk_3 (dk_at dksX4_isDigit_0 16 rfl rfl)
theorem dX4_isDigit_17 : decode cX4_isDigit 17 = .ok (.ireturn, 1) := dk_172 (dk_at dksX4_isDigit_0 17 rfl rfl)
abbrev cX4_isGood : ByteArray := prog_12_method_18_code
def yX4_isGood : MethodName := ⟨RX4, "isGood", "()Z"⟩
def dkwX4_isGood_0 : List UInt8 := [42, 180, 0, 158, 154, 0, 7, 4, 167, 0, 4, 3, 172]
abbrev dktX4_isGood_0 : List UInt8 := dkwX4_isGood_0 ++ []
theorem dksX4_isGood_0 : cX4_isGood.data.toList.drop 0 = dktX4_isGood_0 := by decide +kernel
theorem dX4_isGood_0 : decode cX4_isGood 0 = .ok (.aload_n 0, 1) := dk_42 (dk_at dksX4_isGood_0 0 rfl rfl)
theorem dX4_isGood_1 : decode cX4_isGood 1 = .ok (.getfield 158, 3) := dk_180 0 158 (dk_at dksX4_isGood_0 1 rfl rfl)
theorem dX4_isGood_4 : decode cX4_isGood 4 = .ok (.ifCond .ne 7, 3) := dk_154 0 7 (dk_at dksX4_isGood_0 4 rfl rfl)
theorem dX4_isGood_7 : decode cX4_isGood 7 = .ok (.iconst 1, 1) := dk_4 (dk_at dksX4_isGood_0 7 rfl rfl)
theorem dX4_isGood_8 : decode cX4_isGood 8 = .ok (.goto 4, 3) := dk_167 0 4 (dk_at dksX4_isGood_0 8 rfl rfl)
theorem dX4_isGood_11 : decode cX4_isGood 11 = .ok (.iconst 0, 1) := dk_3 (dk_at dksX4_isGood_0 11 rfl rfl)
theorem dX4_isGood_12 : decode cX4_isGood 12 = .ok (.ireturn, 1) := dk_172 (dk_at dksX4_isGood_0 12 rfl rfl)
abbrev cX4_line : ByteArray := prog_12_method_39_code
def yX4_line : MethodName := ⟨RX4, "line", "()V"⟩
def dkwX4_line_10 : List UInt8 := [182, 1, 7, 167, 0, 8, 42, 4, 182, 0, 168, 42, 42, 16, 59, 182, 0, 199, 182, 1, 14, 177]
abbrev dktX4_line_10 : List UInt8 := dkwX4_line_10 ++ []
def dkwX4_line_9 : List UInt8 := [4, 167, 0, 4, 3, 182, 0, 244, 153, 0, 25, 42, 42, 180, 0, 171, 181, 1, 11, 42, 3, 8]
abbrev dktX4_line_9 : List UInt8 := dkwX4_line_9 ++ dktX4_line_10
def dkwX4_line_8 : List UInt8 := [16, 8, 182, 1, 7, 167, 0, 52, 27, 16, 13, 160, 0, 41, 42, 3, 42, 180, 1, 11, 2, 159, 0, 7]
abbrev dktX4_line_8 : List UInt8 := dkwX4_line_8 ++ dktX4_line_9
def dkwX4_line_7 : List UInt8 := [159, 0, 7, 4, 167, 0, 4, 3, 182, 0, 244, 153, 0, 70, 42, 42, 180, 0, 171, 181, 1, 4, 42, 7]
abbrev dktX4_line_7 : List UInt8 := dkwX4_line_7 ++ dktX4_line_8
def dkwX4_line_6 : List UInt8 := [182, 0, 227, 181, 1, 1, 167, 0, 97, 27, 16, 12, 160, 0, 42, 42, 3, 42, 180, 1, 4, 2]
abbrev dktX4_line_6 : List UInt8 := dkwX4_line_6 ++ dktX4_line_7
def dkwX4_line_5 : List UInt8 := [180, 1, 1, 2, 159, 0, 7, 4, 167, 0, 4, 3, 182, 0, 244, 153, 0, 111, 42, 42, 3, 16, 8]
abbrev dktX4_line_5 : List UInt8 := dkwX4_line_5 ++ dktX4_line_6
def dkwX4_line_4 : List UInt8 := [3, 182, 0, 244, 153, 0, 145, 42, 182, 0, 254, 167, 0, 138, 27, 16, 11, 160, 0, 38, 42, 3, 42]
abbrev dktX4_line_4 : List UInt8 := dkwX4_line_4 ++ dktX4_line_5
def dkwX4_line_3 : List UInt8 := [167, 0, 173, 27, 16, 10, 160, 0, 32, 42, 42, 180, 0, 234, 16, 12, 160, 0, 7, 4, 167, 0, 4, 3]
abbrev dktX4_line_3 : List UInt8 := dkwX4_line_3 ++ dktX4_line_4
def dkwX4_line_2 : List UInt8 := [180, 0, 231, 16, 6, 160, 0, 7, 4, 167, 0, 4, 3, 3, 182, 0, 244, 153, 0, 180, 42, 182, 0, 251]
abbrev dktX4_line_2 : List UInt8 := dkwX4_line_2 ++ dktX4_line_3
def dkwX4_line_1 : List UInt8 := [3, 3, 182, 0, 244, 153, 0, 215, 42, 182, 0, 248, 167, 0, 208, 27, 16, 9, 160, 0, 32, 42, 42]
abbrev dktX4_line_1 : List UInt8 := dkwX4_line_1 ++ dktX4_line_2
def dkwX4_line_0 : List UInt8 := [42, 182, 0, 186, 60, 27, 5, 160, 0, 32, 42, 42, 180, 0, 224, 16, 9, 160, 0, 7, 4, 167, 0, 4]
abbrev dktX4_line_0 : List UInt8 := dkwX4_line_0 ++ dktX4_line_1
theorem dksX4_line_0 : cX4_line.data.toList.drop 0 = dktX4_line_0 := by decide +kernel
theorem dksX4_line_1 : cX4_line.data.toList.drop 24 = dktX4_line_1 := dk_seg dksX4_line_0 24 rfl rfl
theorem dksX4_line_2 : cX4_line.data.toList.drop 47 = dktX4_line_2 := dk_seg dksX4_line_1 23 rfl rfl
theorem dksX4_line_3 : cX4_line.data.toList.drop 71 = dktX4_line_3 := dk_seg dksX4_line_2 24 rfl rfl
theorem dksX4_line_4 : cX4_line.data.toList.drop 95 = dktX4_line_4 := dk_seg dksX4_line_3 24 rfl rfl
theorem dksX4_line_5 : cX4_line.data.toList.drop 118 = dktX4_line_5 := dk_seg dksX4_line_4 23 rfl rfl
theorem dksX4_line_6 : cX4_line.data.toList.drop 141 = dktX4_line_6 := dk_seg dksX4_line_5 23 rfl rfl
theorem dksX4_line_7 : cX4_line.data.toList.drop 163 = dktX4_line_7 := dk_seg dksX4_line_6 22 rfl rfl
theorem dksX4_line_8 : cX4_line.data.toList.drop 187 = dktX4_line_8 := dk_seg dksX4_line_7 24 rfl rfl
theorem dksX4_line_9 : cX4_line.data.toList.drop 211 = dktX4_line_9 := dk_seg dksX4_line_8 24 rfl rfl
theorem dksX4_line_10 : cX4_line.data.toList.drop 233 = dktX4_line_10 := dk_seg dksX4_line_9 22 rfl rfl
theorem dX4_line_0 : decode cX4_line 0 = .ok (.aload_n 0, 1) := dk_42 (dk_at dksX4_line_0 0 rfl rfl)
theorem dX4_line_1 : decode cX4_line 1 = .ok (.invokevirtual 186, 3) := dk_182 0 186 (dk_at dksX4_line_0 1 rfl rfl)
theorem dX4_line_4 : decode cX4_line 4 = .ok (.istore_n 1, 1) := dk_60 (dk_at dksX4_line_0 4 rfl rfl)
theorem dX4_line_5 : decode cX4_line 5 = .ok (.iload_n 1, 1) := dk_27 (dk_at dksX4_line_0 5 rfl rfl)
theorem dX4_line_6 : decode cX4_line 6 = .ok (.iconst 2, 1) := dk_5 (dk_at dksX4_line_0 6 rfl rfl)
theorem dX4_line_7 : decode cX4_line 7 = .ok (.if_icmp .ne 32, 3) := dk_160 0 32 (dk_at dksX4_line_0 7 rfl rfl)
theorem dX4_line_10 : decode cX4_line 10 = .ok (.aload_n 0, 1) := dk_42 (dk_at dksX4_line_0 10 rfl rfl)
theorem dX4_line_11 : decode cX4_line 11 = .ok (.aload_n 0, 1) := dk_42 (dk_at dksX4_line_0 11 rfl rfl)
theorem dX4_line_12 : decode cX4_line 12 = .ok (.getfield 224, 3) := dk_180 0 224 (dk_at dksX4_line_0 12 rfl rfl)
theorem dX4_line_15 : decode cX4_line 15 = .ok (.bipush 9, 2) := dk_16 9 (dk_at dksX4_line_0 15 rfl rfl)
theorem dX4_line_17 : decode cX4_line 17 = .ok (.if_icmp .ne 7, 3) := dk_160 0 7 (dk_at dksX4_line_0 17 rfl rfl)
theorem dX4_line_20 : decode cX4_line 20 = .ok (.iconst 1, 1) := dk_4 (dk_at dksX4_line_0 20 rfl rfl)
theorem dX4_line_21 : decode cX4_line 21 = .ok (.goto 4, 3) := dk_167 0 4 (dk_at dksX4_line_0 21 rfl rfl)
theorem dX4_line_24 : decode cX4_line 24 = .ok (.iconst 0, 1) := dk_3 (dk_at dksX4_line_1 0 rfl rfl)
theorem dX4_line_25 : decode cX4_line 25 = .ok (.iconst 0, 1) := dk_3 (dk_at dksX4_line_1 1 rfl rfl)
theorem dX4_line_26 : decode cX4_line 26 = .ok (.invokevirtual 244, 3) := dk_182 0 244 (dk_at dksX4_line_1 2 rfl rfl)
theorem dX4_line_29 : decode cX4_line 29 = .ok (.ifCond .eq 215, 3) := dk_153 0 215 (dk_at dksX4_line_1 5 rfl rfl)
theorem dX4_line_32 : decode cX4_line 32 = .ok (.aload_n 0, 1) := dk_42 (dk_at dksX4_line_1 8 rfl rfl)
theorem dX4_line_33 : decode cX4_line 33 = .ok (.invokevirtual 248, 3) := dk_182 0 248 (dk_at dksX4_line_1 9 rfl rfl)
theorem dX4_line_36 : decode cX4_line 36 = .ok (.goto 208, 3) := dk_167 0 208 (dk_at dksX4_line_1 12 rfl rfl)
theorem dX4_line_39 : decode cX4_line 39 = .ok (.iload_n 1, 1) := dk_27 (dk_at dksX4_line_1 15 rfl rfl)
theorem dX4_line_40 : decode cX4_line 40 = .ok (.bipush 9, 2) := dk_16 9 (dk_at dksX4_line_1 16 rfl rfl)
theorem dX4_line_42 : decode cX4_line 42 = .ok (.if_icmp .ne 32, 3) := dk_160 0 32 (dk_at dksX4_line_1 18 rfl rfl)
theorem dX4_line_45 : decode cX4_line 45 = .ok (.aload_n 0, 1) := dk_42 (dk_at dksX4_line_1 21 rfl rfl)
theorem dX4_line_46 : decode cX4_line 46 = .ok (.aload_n 0, 1) := dk_42 (dk_at dksX4_line_1 22 rfl rfl)
theorem dX4_line_47 : decode cX4_line 47 = .ok (.getfield 231, 3) := dk_180 0 231 (dk_at dksX4_line_2 0 rfl rfl)
theorem dX4_line_50 : decode cX4_line 50 = .ok (.bipush 6, 2) := dk_16 6 (dk_at dksX4_line_2 3 rfl rfl)
theorem dX4_line_52 : decode cX4_line 52 = .ok (.if_icmp .ne 7, 3) := dk_160 0 7 (dk_at dksX4_line_2 5 rfl rfl)
theorem dX4_line_55 : decode cX4_line 55 = .ok (.iconst 1, 1) := dk_4 (dk_at dksX4_line_2 8 rfl rfl)
theorem dX4_line_56 : decode cX4_line 56 = .ok (.goto 4, 3) := dk_167 0 4 (dk_at dksX4_line_2 9 rfl rfl)
theorem dX4_line_59 : decode cX4_line 59 = .ok (.iconst 0, 1) := dk_3 (dk_at dksX4_line_2 12 rfl rfl)
theorem dX4_line_60 : decode cX4_line 60 = .ok (.iconst 0, 1) := dk_3 (dk_at dksX4_line_2 13 rfl rfl)
theorem dX4_line_61 : decode cX4_line 61 = .ok (.invokevirtual 244, 3) := dk_182 0 244 (dk_at dksX4_line_2 14 rfl rfl)
theorem dX4_line_64 : decode cX4_line 64 = .ok (.ifCond .eq 180, 3) := dk_153 0 180 (dk_at dksX4_line_2 17 rfl rfl)
theorem dX4_line_67 : decode cX4_line 67 = .ok (.aload_n 0, 1) := dk_42 (dk_at dksX4_line_2 20 rfl rfl)
theorem dX4_line_68 : decode cX4_line 68 = .ok (.invokevirtual 251, 3) := dk_182 0 251 (dk_at dksX4_line_2 21 rfl rfl)
theorem dX4_line_71 : decode cX4_line 71 = .ok (.goto 173, 3) := dk_167 0 173 (dk_at dksX4_line_3 0 rfl rfl)
theorem dX4_line_74 : decode cX4_line 74 = .ok (.iload_n 1, 1) := dk_27 (dk_at dksX4_line_3 3 rfl rfl)
theorem dX4_line_75 : decode cX4_line 75 = .ok (.bipush 10, 2) := dk_16 10 (dk_at dksX4_line_3 4 rfl rfl)
theorem dX4_line_77 : decode cX4_line 77 = .ok (.if_icmp .ne 32, 3) := dk_160 0 32 (dk_at dksX4_line_3 6 rfl rfl)
theorem dX4_line_80 : decode cX4_line 80 = .ok (.aload_n 0, 1) := dk_42 (dk_at dksX4_line_3 9 rfl rfl)
theorem dX4_line_81 : decode cX4_line 81 = .ok (.aload_n 0, 1) := dk_42 (dk_at dksX4_line_3 10 rfl rfl)
theorem dX4_line_82 : decode cX4_line 82 = .ok (.getfield 234, 3) := dk_180 0 234 (dk_at dksX4_line_3 11 rfl rfl)
theorem dX4_line_85 : decode cX4_line 85 = .ok (.bipush 12, 2) := dk_16 12 (dk_at dksX4_line_3 14 rfl rfl)
theorem dX4_line_87 : decode cX4_line 87 = .ok (.if_icmp .ne 7, 3) := dk_160 0 7 (dk_at dksX4_line_3 16 rfl rfl)
theorem dX4_line_90 : decode cX4_line 90 = .ok (.iconst 1, 1) := dk_4 (dk_at dksX4_line_3 19 rfl rfl)
theorem dX4_line_91 : decode cX4_line 91 = .ok (.goto 4, 3) := dk_167 0 4 (dk_at dksX4_line_3 20 rfl rfl)
theorem dX4_line_94 : decode cX4_line 94 = .ok (.iconst 0, 1) := dk_3 (dk_at dksX4_line_3 23 rfl rfl)
theorem dX4_line_95 : decode cX4_line 95 = .ok (.iconst 0, 1) := dk_3 (dk_at dksX4_line_4 0 rfl rfl)
theorem dX4_line_96 : decode cX4_line 96 = .ok (.invokevirtual 244, 3) := dk_182 0 244 (dk_at dksX4_line_4 1 rfl rfl)
theorem dX4_line_99 : decode cX4_line 99 = .ok (.ifCond .eq 145, 3) := dk_153 0 145 (dk_at dksX4_line_4 4 rfl rfl)
theorem dX4_line_102 : decode cX4_line 102 = .ok (.aload_n 0, 1) := dk_42 (dk_at dksX4_line_4 7 rfl rfl)
theorem dX4_line_103 : decode cX4_line 103 = .ok (.invokevirtual 254, 3) := dk_182 0 254 (dk_at dksX4_line_4 8 rfl rfl)
theorem dX4_line_106 : decode cX4_line 106 = .ok (.goto 138, 3) := dk_167 0 138 (dk_at dksX4_line_4 11 rfl rfl)
theorem dX4_line_109 : decode cX4_line 109 = .ok (.iload_n 1, 1) := dk_27 (dk_at dksX4_line_4 14 rfl rfl)
theorem dX4_line_110 : decode cX4_line 110 = .ok (.bipush 11, 2) := dk_16 11 (dk_at dksX4_line_4 15 rfl rfl)
theorem dX4_line_112 : decode cX4_line 112 = .ok (.if_icmp .ne 38, 3) := dk_160 0 38 (dk_at dksX4_line_4 17 rfl rfl)
theorem dX4_line_115 : decode cX4_line 115 = .ok (.aload_n 0, 1) := dk_42 (dk_at dksX4_line_4 20 rfl rfl)
theorem dX4_line_116 : decode cX4_line 116 = .ok (.iconst 0, 1) := dk_3 (dk_at dksX4_line_4 21 rfl rfl)
theorem dX4_line_117 : decode cX4_line 117 = .ok (.aload_n 0, 1) := dk_42 (dk_at dksX4_line_4 22 rfl rfl)
theorem dX4_line_118 : decode cX4_line 118 = .ok (.getfield 257, 3) := dk_180 1 1 (dk_at dksX4_line_5 0 rfl rfl)
theorem dX4_line_121 : decode cX4_line 121 = .ok (.iconst (-1), 1) := dk_2 (dk_at dksX4_line_5 3 rfl rfl)
theorem dX4_line_122 : decode cX4_line 122 = .ok (.if_icmp .eq 7, 3) := dk_159 0 7 (dk_at dksX4_line_5 4 rfl rfl)
theorem dX4_line_125 : decode cX4_line 125 = .ok (.iconst 1, 1) := dk_4 (dk_at dksX4_line_5 7 rfl rfl)
theorem dX4_line_126 : decode cX4_line 126 = .ok (.goto 4, 3) := dk_167 0 4 (dk_at dksX4_line_5 8 rfl rfl)
theorem dX4_line_129 : decode cX4_line 129 = .ok (.iconst 0, 1) := dk_3 (dk_at dksX4_line_5 11 rfl rfl)
theorem dX4_line_130 : decode cX4_line 130 = .ok (.invokevirtual 244, 3) := dk_182 0 244 (dk_at dksX4_line_5 12 rfl rfl)
theorem dX4_line_133 : decode cX4_line 133 = .ok (.ifCond .eq 111, 3) := dk_153 0 111 (dk_at dksX4_line_5 15 rfl rfl)
theorem dX4_line_136 : decode cX4_line 136 = .ok (.aload_n 0, 1) := dk_42 (dk_at dksX4_line_5 18 rfl rfl)
theorem dX4_line_137 : decode cX4_line 137 = .ok (.aload_n 0, 1) := dk_42 (dk_at dksX4_line_5 19 rfl rfl)
theorem dX4_line_138 : decode cX4_line 138 = .ok (.iconst 0, 1) := dk_3 (dk_at dksX4_line_5 20 rfl rfl)
theorem dX4_line_139 : decode cX4_line 139 = .ok (.bipush 8, 2) := dk_16 8 (dk_at dksX4_line_5 21 rfl rfl)
theorem dX4_line_141 : decode cX4_line 141 = .ok (.invokevirtual 227, 3) := dk_182 0 227 (dk_at dksX4_line_6 0 rfl rfl)
theorem dX4_line_144 : decode cX4_line 144 = .ok (.putfield 257, 3) := dk_181 1 1 (dk_at dksX4_line_6 3 rfl rfl)
theorem dX4_line_147 : decode cX4_line 147 = .ok (.goto 97, 3) := dk_167 0 97 (dk_at dksX4_line_6 6 rfl rfl)
theorem dX4_line_150 : decode cX4_line 150 = .ok (.iload_n 1, 1) := dk_27 (dk_at dksX4_line_6 9 rfl rfl)
theorem dX4_line_151 : decode cX4_line 151 = .ok (.bipush 12, 2) := dk_16 12 (dk_at dksX4_line_6 10 rfl rfl)
theorem dX4_line_153 : decode cX4_line 153 = .ok (.if_icmp .ne 42, 3) := dk_160 0 42 (dk_at dksX4_line_6 12 rfl rfl)
theorem dX4_line_156 : decode cX4_line 156 = .ok (.aload_n 0, 1) := dk_42 (dk_at dksX4_line_6 15 rfl rfl)
theorem dX4_line_157 : decode cX4_line 157 = .ok (.iconst 0, 1) := dk_3 (dk_at dksX4_line_6 16 rfl rfl)
theorem dX4_line_158 : decode cX4_line 158 = .ok (.aload_n 0, 1) := dk_42 (dk_at dksX4_line_6 17 rfl rfl)
theorem dX4_line_159 : decode cX4_line 159 = .ok (.getfield 260, 3) := dk_180 1 4 (dk_at dksX4_line_6 18 rfl rfl)
theorem dX4_line_162 : decode cX4_line 162 = .ok (.iconst (-1), 1) := dk_2 (dk_at dksX4_line_6 21 rfl rfl)
theorem dX4_line_163 : decode cX4_line 163 = .ok (.if_icmp .eq 7, 3) := dk_159 0 7 (dk_at dksX4_line_7 0 rfl rfl)
theorem dX4_line_166 : decode cX4_line 166 = .ok (.iconst 1, 1) := dk_4 (dk_at dksX4_line_7 3 rfl rfl)
theorem dX4_line_167 : decode cX4_line 167 = .ok (.goto 4, 3) := dk_167 0 4 (dk_at dksX4_line_7 4 rfl rfl)
theorem dX4_line_170 : decode cX4_line 170 = .ok (.iconst 0, 1) := dk_3 (dk_at dksX4_line_7 7 rfl rfl)
theorem dX4_line_171 : decode cX4_line 171 = .ok (.invokevirtual 244, 3) := dk_182 0 244 (dk_at dksX4_line_7 8 rfl rfl)
theorem dX4_line_174 : decode cX4_line 174 = .ok (.ifCond .eq 70, 3) := dk_153 0 70 (dk_at dksX4_line_7 11 rfl rfl)
theorem dX4_line_177 : decode cX4_line 177 = .ok (.aload_n 0, 1) := dk_42 (dk_at dksX4_line_7 14 rfl rfl)
theorem dX4_line_178 : decode cX4_line 178 = .ok (.aload_n 0, 1) := dk_42 (dk_at dksX4_line_7 15 rfl rfl)
theorem dX4_line_179 : decode cX4_line 179 = .ok (.getfield 171, 3) := dk_180 0 171 (dk_at dksX4_line_7 16 rfl rfl)
theorem dX4_line_182 : decode cX4_line 182 = .ok (.putfield 260, 3) := dk_181 1 4 (dk_at dksX4_line_7 19 rfl rfl)
theorem dX4_line_185 : decode cX4_line 185 = .ok (.aload_n 0, 1) := dk_42 (dk_at dksX4_line_7 22 rfl rfl)
theorem dX4_line_186 : decode cX4_line 186 = .ok (.iconst 4, 1) := dk_7 (dk_at dksX4_line_7 23 rfl rfl)
theorem dX4_line_187 : decode cX4_line 187 = .ok (.bipush 8, 2) := dk_16 8 (dk_at dksX4_line_8 0 rfl rfl)
theorem dX4_line_189 : decode cX4_line 189 = .ok (.invokevirtual 263, 3) := dk_182 1 7 (dk_at dksX4_line_8 2 rfl rfl)
theorem dX4_line_192 : decode cX4_line 192 = .ok (.goto 52, 3) := dk_167 0 52 (dk_at dksX4_line_8 5 rfl rfl)
theorem dX4_line_195 : decode cX4_line 195 = .ok (.iload_n 1, 1) := dk_27 (dk_at dksX4_line_8 8 rfl rfl)
theorem dX4_line_196 : decode cX4_line 196 = .ok (.bipush 13, 2) := dk_16 13 (dk_at dksX4_line_8 9 rfl rfl)
theorem dX4_line_198 : decode cX4_line 198 = .ok (.if_icmp .ne 41, 3) := dk_160 0 41 (dk_at dksX4_line_8 11 rfl rfl)
theorem dX4_line_201 : decode cX4_line 201 = .ok (.aload_n 0, 1) := dk_42 (dk_at dksX4_line_8 14 rfl rfl)
theorem dX4_line_202 : decode cX4_line 202 = .ok (.iconst 0, 1) := dk_3 (dk_at dksX4_line_8 15 rfl rfl)
theorem dX4_line_203 : decode cX4_line 203 = .ok (.aload_n 0, 1) := dk_42 (dk_at dksX4_line_8 16 rfl rfl)
theorem dX4_line_204 : decode cX4_line 204 = .ok (.getfield 267, 3) := dk_180 1 11 (dk_at dksX4_line_8 17 rfl rfl)
theorem dX4_line_207 : decode cX4_line 207 = .ok (.iconst (-1), 1) := dk_2 (dk_at dksX4_line_8 20 rfl rfl)
theorem dX4_line_208 : decode cX4_line 208 = .ok (.if_icmp .eq 7, 3) := dk_159 0 7 (dk_at dksX4_line_8 21 rfl rfl)
theorem dX4_line_211 : decode cX4_line 211 = .ok (.iconst 1, 1) := dk_4 (dk_at dksX4_line_9 0 rfl rfl)
theorem dX4_line_212 : decode cX4_line 212 = .ok (.goto 4, 3) := dk_167 0 4 (dk_at dksX4_line_9 1 rfl rfl)
theorem dX4_line_215 : decode cX4_line 215 = .ok (.iconst 0, 1) := dk_3 (dk_at dksX4_line_9 4 rfl rfl)
theorem dX4_line_216 : decode cX4_line 216 = .ok (.invokevirtual 244, 3) := dk_182 0 244 (dk_at dksX4_line_9 5 rfl rfl)
theorem dX4_line_219 : decode cX4_line 219 = .ok (.ifCond .eq 25, 3) := dk_153 0 25 (dk_at dksX4_line_9 8 rfl rfl)
theorem dX4_line_222 : decode cX4_line 222 = .ok (.aload_n 0, 1) := dk_42 (dk_at dksX4_line_9 11 rfl rfl)
theorem dX4_line_223 : decode cX4_line 223 = .ok (.aload_n 0, 1) := dk_42 (dk_at dksX4_line_9 12 rfl rfl)
theorem dX4_line_224 : decode cX4_line 224 = .ok (.getfield 171, 3) := dk_180 0 171 (dk_at dksX4_line_9 13 rfl rfl)
theorem dX4_line_227 : decode cX4_line 227 = .ok (.putfield 267, 3) := dk_181 1 11 (dk_at dksX4_line_9 16 rfl rfl)
theorem dX4_line_230 : decode cX4_line 230 = .ok (.aload_n 0, 1) := dk_42 (dk_at dksX4_line_9 19 rfl rfl)
theorem dX4_line_231 : decode cX4_line 231 = .ok (.iconst 0, 1) := dk_3 (dk_at dksX4_line_9 20 rfl rfl)
theorem dX4_line_232 : decode cX4_line 232 = .ok (.iconst 5, 1) := dk_8 (dk_at dksX4_line_9 21 rfl rfl)
theorem dX4_line_233 : decode cX4_line 233 = .ok (.invokevirtual 263, 3) := dk_182 1 7 (dk_at dksX4_line_10 0 rfl rfl)
theorem dX4_line_236 : decode cX4_line 236 = .ok (.goto 8, 3) := dk_167 0 8 (dk_at dksX4_line_10 3 rfl rfl)
theorem dX4_line_239 : decode cX4_line 239 = .ok (.aload_n 0, 1) := dk_42 (dk_at dksX4_line_10 6 rfl rfl)
theorem dX4_line_240 : decode cX4_line 240 = .ok (.iconst 1, 1) := dk_4 (dk_at dksX4_line_10 7 rfl rfl)
theorem dX4_line_241 : decode cX4_line 241 = .ok (.invokevirtual 168, 3) := dk_182 0 168 (dk_at dksX4_line_10 8 rfl rfl)
theorem dX4_line_244 : decode cX4_line 244 = .ok (.aload_n 0, 1) := dk_42 (dk_at dksX4_line_10 11 rfl rfl)
theorem dX4_line_245 : decode cX4_line 245 = .ok (.aload_n 0, 1) := dk_42 (dk_at dksX4_line_10 12 rfl rfl)
theorem dX4_line_246 : decode cX4_line 246 = .ok (.bipush 59, 2) := dk_16 59 (dk_at dksX4_line_10 13 rfl rfl)
theorem dX4_line_248 : decode cX4_line 248 = .ok (.invokevirtual 199, 3) := dk_182 0 199 (dk_at dksX4_line_10 15 rfl rfl)
theorem dX4_line_251 : decode cX4_line 251 = .ok (.invokevirtual 270, 3) := dk_182 1 14 (dk_at dksX4_line_10 18 rfl rfl)
theorem dX4_line_254 : decode cX4_line 254 = .ok (.return_, 1) := dk_177 (dk_at dksX4_line_10 21 rfl rfl)
abbrev cX4_knownWord : ByteArray := prog_12_method_16_code
def yX4_knownWord : MethodName := ⟨RX4, "knownWord", "()I"⟩
def dkwX4_knownWord_2 : List UInt8 := [172]
abbrev dktX4_knownWord_2 : List UInt8 := dkwX4_knownWord_2 ++ []
def dkwX4_knownWord_1 : List UInt8 := [162, 0, 23, 27, 184, 0, 154, 42, 180, 0, 125, 148, 154, 0, 5, 27, 172, 132, 1, 1, 167, 255, 233, 2]
abbrev dktX4_knownWord_1 : List UInt8 := dkwX4_knownWord_1 ++ dktX4_knownWord_2
def dkwX4_knownWord_0 : List UInt8 := [42, 180, 0, 135, 4, 160, 0, 12, 42, 180, 0, 145, 16, 6, 164, 0, 5, 2, 172, 3, 60, 27, 16, 17]
abbrev dktX4_knownWord_0 : List UInt8 := dkwX4_knownWord_0 ++ dktX4_knownWord_1
theorem dksX4_knownWord_0 : cX4_knownWord.data.toList.drop 0 = dktX4_knownWord_0 := by decide +kernel
theorem dksX4_knownWord_1 : cX4_knownWord.data.toList.drop 24 = dktX4_knownWord_1 := dk_seg dksX4_knownWord_0 24 rfl rfl
theorem dksX4_knownWord_2 : cX4_knownWord.data.toList.drop 48 = dktX4_knownWord_2 := dk_seg dksX4_knownWord_1 24 rfl rfl
theorem dX4_knownWord_0 : decode cX4_knownWord 0 = .ok (.aload_n 0, 1) := dk_42 (dk_at dksX4_knownWord_0 0 rfl rfl)
theorem dX4_knownWord_1 : decode cX4_knownWord 1 = .ok (.getfield 135, 3) := dk_180 0 135 (dk_at dksX4_knownWord_0 1 rfl rfl)
theorem dX4_knownWord_4 : decode cX4_knownWord 4 = .ok (.iconst 1, 1) := dk_4 (dk_at dksX4_knownWord_0 4 rfl rfl)
theorem dX4_knownWord_5 : decode cX4_knownWord 5 = .ok (.if_icmp .ne 12, 3) := dk_160 0 12 (dk_at dksX4_knownWord_0 5 rfl rfl)
theorem dX4_knownWord_8 : decode cX4_knownWord 8 = .ok (.aload_n 0, 1) := dk_42 (dk_at dksX4_knownWord_0 8 rfl rfl)
theorem dX4_knownWord_9 : decode cX4_knownWord 9 = .ok (.getfield 145, 3) := dk_180 0 145 (dk_at dksX4_knownWord_0 9 rfl rfl)
theorem dX4_knownWord_12 : decode cX4_knownWord 12 = .ok (.bipush 6, 2) := dk_16 6 (dk_at dksX4_knownWord_0 12 rfl rfl)
theorem dX4_knownWord_14 : decode cX4_knownWord 14 = .ok (.if_icmp .le 5, 3) := dk_164 0 5 (dk_at dksX4_knownWord_0 14 rfl rfl)
theorem dX4_knownWord_17 : decode cX4_knownWord 17 = .ok (.iconst (-1), 1) := dk_2 (dk_at dksX4_knownWord_0 17 rfl rfl)
theorem dX4_knownWord_18 : decode cX4_knownWord 18 = .ok (.ireturn, 1) := dk_172 (dk_at dksX4_knownWord_0 18 rfl rfl)
theorem dX4_knownWord_19 : decode cX4_knownWord 19 = .ok (.iconst 0, 1) := dk_3 (dk_at dksX4_knownWord_0 19 rfl rfl)
theorem dX4_knownWord_20 : decode cX4_knownWord 20 = .ok (.istore_n 1, 1) := dk_60 (dk_at dksX4_knownWord_0 20 rfl rfl)
theorem dX4_knownWord_21 : decode cX4_knownWord 21 = .ok (.iload_n 1, 1) := dk_27 (dk_at dksX4_knownWord_0 21 rfl rfl)
theorem dX4_knownWord_22 : decode cX4_knownWord 22 = .ok (.bipush 17, 2) := dk_16 17 (dk_at dksX4_knownWord_0 22 rfl rfl)
theorem dX4_knownWord_24 : decode cX4_knownWord 24 = .ok (.if_icmp .ge 23, 3) := dk_162 0 23 (dk_at dksX4_knownWord_1 0 rfl rfl)
theorem dX4_knownWord_27 : decode cX4_knownWord 27 = .ok (.iload_n 1, 1) := dk_27 (dk_at dksX4_knownWord_1 3 rfl rfl)
theorem dX4_knownWord_28 : decode cX4_knownWord 28 = .ok (.invokestatic 154, 3) := dk_184 0 154 (dk_at dksX4_knownWord_1 4 rfl rfl)
theorem dX4_knownWord_31 : decode cX4_knownWord 31 = .ok (.aload_n 0, 1) := dk_42 (dk_at dksX4_knownWord_1 7 rfl rfl)
theorem dX4_knownWord_32 : decode cX4_knownWord 32 = .ok (.getfield 125, 3) := dk_180 0 125 (dk_at dksX4_knownWord_1 8 rfl rfl)
theorem dX4_knownWord_35 : decode cX4_knownWord 35 = .ok (.lcmp, 1) := dk_148 (dk_at dksX4_knownWord_1 11 rfl rfl)
theorem dX4_knownWord_36 : decode cX4_knownWord 36 = .ok (.ifCond .ne 5, 3) := dk_154 0 5 (dk_at dksX4_knownWord_1 12 rfl rfl)
theorem dX4_knownWord_39 : decode cX4_knownWord 39 = .ok (.iload_n 1, 1) := dk_27 (dk_at dksX4_knownWord_1 15 rfl rfl)
theorem dX4_knownWord_40 : decode cX4_knownWord 40 = .ok (.ireturn, 1) := dk_172 (dk_at dksX4_knownWord_1 16 rfl rfl)
theorem dX4_knownWord_41 : decode cX4_knownWord 41 = .ok (.iinc 1 1, 3) := dk_132 1 1 (dk_at dksX4_knownWord_1 17 rfl rfl)
theorem dX4_knownWord_44 : decode cX4_knownWord 44 = .ok (.goto (-23), 3) := dk_167 255 233 (dk_at dksX4_knownWord_1 20 rfl rfl)
theorem dX4_knownWord_47 : decode cX4_knownWord 47 = .ok (.iconst (-1), 1) := dk_2 (dk_at dksX4_knownWord_1 23 rfl rfl)
theorem dX4_knownWord_48 : decode cX4_knownWord 48 = .ok (.ireturn, 1) := dk_172 (dk_at dksX4_knownWord_2 0 rfl rfl)
abbrev cX4_letters : ByteArray := prog_12_method_15_code
def yX4_letters : MethodName := ⟨RX4, "letters", "(I)J"⟩
def dkwX4_letters_12 : List UInt8 := [3, 3, 184, 0, 150, 173]
abbrev dktX4_letters_12 : List UInt8 := dkwX4_letters_12 ++ []
def dkwX4_letters_11 : List UInt8 := [3, 184, 0, 150, 173, 16, 111, 16, 114, 3, 3, 3, 3, 184, 0, 150, 173, 16, 110, 16, 111, 16, 116, 3]
abbrev dktX4_letters_11 : List UInt8 := dkwX4_letters_11 ++ dktX4_letters_12
def dkwX4_letters_10 : List UInt8 := [16, 109, 16, 111, 16, 117, 16, 108, 16, 100, 16, 115, 184, 0, 150, 173, 16, 97, 16, 110, 16, 100, 3, 3]
abbrev dktX4_letters_10 : List UInt8 := dkwX4_letters_10 ++ dktX4_letters_11
def dkwX4_letters_9 : List UInt8 := [16, 99, 16, 107, 3, 184, 0, 150, 173, 16, 108, 16, 97, 16, 121, 16, 115, 3, 3, 184, 0, 150, 173]
abbrev dktX4_letters_9 : List UInt8 := dkwX4_letters_9 ++ dktX4_letters_10
def dkwX4_letters_8 : List UInt8 := [184, 0, 150, 173, 16, 119, 16, 111, 16, 114, 16, 100, 3, 3, 184, 0, 150, 173, 16, 115, 16, 108, 16, 97]
abbrev dktX4_letters_8 : List UInt8 := dkwX4_letters_8 ++ dktX4_letters_9
def dkwX4_letters_7 : List UInt8 := [16, 110, 16, 111, 16, 119, 16, 110, 3, 184, 0, 150, 173, 16, 99, 16, 108, 16, 101, 16, 114, 16, 107, 3]
abbrev dktX4_letters_7 : List UInt8 := dkwX4_letters_7 ++ dktX4_letters_8
def dkwX4_letters_6 : List UInt8 := [16, 115, 184, 0, 150, 173, 16, 99, 16, 108, 16, 101, 16, 114, 16, 107, 16, 115, 184, 0, 150, 173, 16, 107]
abbrev dktX4_letters_6 : List UInt8 := dkwX4_letters_6 ++ dktX4_letters_7
def dkwX4_letters_5 : List UInt8 := [173, 16, 100, 16, 97, 16, 121, 3, 3, 3, 184, 0, 150, 173, 16, 115, 16, 104, 16, 101, 16, 101, 16, 116]
abbrev dktX4_letters_5 : List UInt8 := dkwX4_letters_5 ++ dktX4_letters_6
def dkwX4_letters_4 : List UInt8 := [16, 114, 16, 110, 16, 101, 3, 184, 0, 150, 173, 16, 116, 16, 111, 16, 119, 16, 110, 3, 3, 184, 0, 150]
abbrev dktX4_letters_4 : List UInt8 := dkwX4_letters_4 ++ dktX4_letters_5
def dkwX4_letters_3 : List UInt8 := [3, 184, 0, 150, 173, 16, 115, 16, 104, 16, 101, 16, 101, 16, 116, 3, 184, 0, 150, 173, 16, 98, 16, 111]
abbrev dktX4_letters_3 : List UInt8 := dkwX4_letters_3 ++ dktX4_letters_4
def dkwX4_letters_2 : List UInt8 := [16, 108, 16, 101, 16, 102, 16, 116, 3, 3, 184, 0, 150, 173, 16, 114, 16, 105, 16, 103, 16, 104, 16, 116]
abbrev dktX4_letters_2 : List UInt8 := dkwX4_letters_2 ++ dktX4_letters_3
def dkwX4_letters_1 : List UInt8 := [170, 0, 0, 0, 0, 1, 55, 0, 0, 0, 0, 0, 0, 0, 15, 0, 0, 0, 79, 0, 0, 0, 93, 0, 0, 0, 108, 0, 0, 0, 123, 0, 0, 0, 138, 0, 0, 0, 152, 0, 0, 0, 165, 0, 0, 0, 181, 0, 0, 0, 197, 0, 0, 0, 212, 0, 0, 0, 227, 0, 0, 0, 241, 0, 0, 1, 0, 0, 0, 1, 14, 0, 0, 1, 30, 0, 0, 1, 43]
abbrev dktX4_letters_1 : List UInt8 := dkwX4_letters_1 ++ dktX4_letters_2
def dkwX4_letters_0 : List UInt8 := [26]
abbrev dktX4_letters_0 : List UInt8 := dkwX4_letters_0 ++ dktX4_letters_1
theorem dksX4_letters_0 : cX4_letters.data.toList.drop 0 = dktX4_letters_0 := by decide +kernel
theorem dksX4_letters_1 : cX4_letters.data.toList.drop 1 = dktX4_letters_1 := dk_seg dksX4_letters_0 1 rfl rfl
theorem dksX4_letters_2 : cX4_letters.data.toList.drop 80 = dktX4_letters_2 := dk_seg dksX4_letters_1 79 rfl rfl
theorem dksX4_letters_3 : cX4_letters.data.toList.drop 104 = dktX4_letters_3 := dk_seg dksX4_letters_2 24 rfl rfl
theorem dksX4_letters_4 : cX4_letters.data.toList.drop 128 = dktX4_letters_4 := dk_seg dksX4_letters_3 24 rfl rfl
theorem dksX4_letters_5 : cX4_letters.data.toList.drop 152 = dktX4_letters_5 := dk_seg dksX4_letters_4 24 rfl rfl
theorem dksX4_letters_6 : cX4_letters.data.toList.drop 176 = dktX4_letters_6 := dk_seg dksX4_letters_5 24 rfl rfl
theorem dksX4_letters_7 : cX4_letters.data.toList.drop 200 = dktX4_letters_7 := dk_seg dksX4_letters_6 24 rfl rfl
theorem dksX4_letters_8 : cX4_letters.data.toList.drop 224 = dktX4_letters_8 := dk_seg dksX4_letters_7 24 rfl rfl
theorem dksX4_letters_9 : cX4_letters.data.toList.drop 248 = dktX4_letters_9 := dk_seg dksX4_letters_8 24 rfl rfl
theorem dksX4_letters_10 : cX4_letters.data.toList.drop 271 = dktX4_letters_10 := dk_seg dksX4_letters_9 23 rfl rfl
theorem dksX4_letters_11 : cX4_letters.data.toList.drop 295 = dktX4_letters_11 := dk_seg dksX4_letters_10 24 rfl rfl
theorem dksX4_letters_12 : cX4_letters.data.toList.drop 319 = dktX4_letters_12 := dk_seg dksX4_letters_11 24 rfl rfl
theorem dX4_letters_0 : decode cX4_letters 0 = .ok (.iload_n 0, 1) := dk_26 (dk_at dksX4_letters_0 0 rfl rfl)
theorem dX4_letters_1 : decode cX4_letters 1 = .ok (.tableswitch 311 0 15 #[79, 93, 108, 123, 138, 152, 165, 181, 197, 212, 227, 241, 256, 270, 286, 299], 79) := by decide +kernel
theorem dX4_letters_80 : decode cX4_letters 80 = .ok (.bipush 108, 2) := dk_16 108 (dk_at dksX4_letters_2 0 rfl rfl)
theorem dX4_letters_82 : decode cX4_letters 82 = .ok (.bipush 101, 2) := dk_16 101 (dk_at dksX4_letters_2 2 rfl rfl)
theorem dX4_letters_84 : decode cX4_letters 84 = .ok (.bipush 102, 2) := dk_16 102 (dk_at dksX4_letters_2 4 rfl rfl)
theorem dX4_letters_86 : decode cX4_letters 86 = .ok (.bipush 116, 2) := dk_16 116 (dk_at dksX4_letters_2 6 rfl rfl)
theorem dX4_letters_88 : decode cX4_letters 88 = .ok (.iconst 0, 1) := dk_3 (dk_at dksX4_letters_2 8 rfl rfl)
theorem dX4_letters_89 : decode cX4_letters 89 = .ok (.iconst 0, 1) := dk_3 (dk_at dksX4_letters_2 9 rfl rfl)
theorem dX4_letters_90 : decode cX4_letters 90 = .ok (.invokestatic 150, 3) := dk_184 0 150 (dk_at dksX4_letters_2 10 rfl rfl)
theorem dX4_letters_93 : decode cX4_letters 93 = .ok (.lreturn, 1) := dk_173 (dk_at dksX4_letters_2 13 rfl rfl)
theorem dX4_letters_94 : decode cX4_letters 94 = .ok (.bipush 114, 2) := dk_16 114 (dk_at dksX4_letters_2 14 rfl rfl)
theorem dX4_letters_96 : decode cX4_letters 96 = .ok (.bipush 105, 2) := dk_16 105 (dk_at dksX4_letters_2 16 rfl rfl)
theorem dX4_letters_98 : decode cX4_letters 98 = .ok (.bipush 103, 2) := dk_16 103 (dk_at dksX4_letters_2 18 rfl rfl)
theorem dX4_letters_100 : decode cX4_letters 100 = .ok (.bipush 104, 2) := dk_16 104 (dk_at dksX4_letters_2 20 rfl rfl)
theorem dX4_letters_102 : decode cX4_letters 102 = .ok (.bipush 116, 2) := dk_16 116 (dk_at dksX4_letters_2 22 rfl rfl)
theorem dX4_letters_104 : decode cX4_letters 104 = .ok (.iconst 0, 1) := dk_3 (dk_at dksX4_letters_3 0 rfl rfl)
theorem dX4_letters_105 : decode cX4_letters 105 = .ok (.invokestatic 150, 3) := dk_184 0 150 (dk_at dksX4_letters_3 1 rfl rfl)
theorem dX4_letters_108 : decode cX4_letters 108 = .ok (.lreturn, 1) := dk_173 (dk_at dksX4_letters_3 4 rfl rfl)
theorem dX4_letters_109 : decode cX4_letters 109 = .ok (.bipush 115, 2) := dk_16 115 (dk_at dksX4_letters_3 5 rfl rfl)
theorem dX4_letters_111 : decode cX4_letters 111 = .ok (.bipush 104, 2) := dk_16 104 (dk_at dksX4_letters_3 7 rfl rfl)
theorem dX4_letters_113 : decode cX4_letters 113 = .ok (.bipush 101, 2) := dk_16 101 (dk_at dksX4_letters_3 9 rfl rfl)
theorem dX4_letters_115 : decode cX4_letters 115 = .ok (.bipush 101, 2) := dk_16 101 (dk_at dksX4_letters_3 11 rfl rfl)
theorem dX4_letters_117 : decode cX4_letters 117 = .ok (.bipush 116, 2) := dk_16 116 (dk_at dksX4_letters_3 13 rfl rfl)
theorem dX4_letters_119 : decode cX4_letters 119 = .ok (.iconst 0, 1) := dk_3 (dk_at dksX4_letters_3 15 rfl rfl)
theorem dX4_letters_120 : decode cX4_letters 120 = .ok (.invokestatic 150, 3) := dk_184 0 150 (dk_at dksX4_letters_3 16 rfl rfl)
theorem dX4_letters_123 : decode cX4_letters 123 = .ok (.lreturn, 1) := dk_173 (dk_at dksX4_letters_3 19 rfl rfl)
theorem dX4_letters_124 : decode cX4_letters 124 = .ok (.bipush 98, 2) := dk_16 98 (dk_at dksX4_letters_3 20 rfl rfl)
theorem dX4_letters_126 : decode cX4_letters 126 = .ok (.bipush 111, 2) := dk_16 111 (dk_at dksX4_letters_3 22 rfl rfl)
theorem dX4_letters_128 : decode cX4_letters 128 = .ok (.bipush 114, 2) := dk_16 114 (dk_at dksX4_letters_4 0 rfl rfl)
theorem dX4_letters_130 : decode cX4_letters 130 = .ok (.bipush 110, 2) := dk_16 110 (dk_at dksX4_letters_4 2 rfl rfl)
theorem dX4_letters_132 : decode cX4_letters 132 = .ok (.bipush 101, 2) := dk_16 101 (dk_at dksX4_letters_4 4 rfl rfl)
theorem dX4_letters_134 : decode cX4_letters 134 = .ok (.iconst 0, 1) := dk_3 (dk_at dksX4_letters_4 6 rfl rfl)
theorem dX4_letters_135 : decode cX4_letters 135 = .ok (.invokestatic 150, 3) := dk_184 0 150 (dk_at dksX4_letters_4 7 rfl rfl)
theorem dX4_letters_138 : decode cX4_letters 138 = .ok (.lreturn, 1) := dk_173 (dk_at dksX4_letters_4 10 rfl rfl)
theorem dX4_letters_139 : decode cX4_letters 139 = .ok (.bipush 116, 2) := dk_16 116 (dk_at dksX4_letters_4 11 rfl rfl)
theorem dX4_letters_141 : decode cX4_letters 141 = .ok (.bipush 111, 2) := dk_16 111 (dk_at dksX4_letters_4 13 rfl rfl)
theorem dX4_letters_143 : decode cX4_letters 143 = .ok (.bipush 119, 2) := dk_16 119 (dk_at dksX4_letters_4 15 rfl rfl)
theorem dX4_letters_145 : decode cX4_letters 145 = .ok (.bipush 110, 2) := dk_16 110 (dk_at dksX4_letters_4 17 rfl rfl)
theorem dX4_letters_147 : decode cX4_letters 147 = .ok (.iconst 0, 1) := dk_3 (dk_at dksX4_letters_4 19 rfl rfl)
theorem dX4_letters_148 : decode cX4_letters 148 = .ok (.iconst 0, 1) := dk_3 (dk_at dksX4_letters_4 20 rfl rfl)
theorem dX4_letters_149 : decode cX4_letters 149 = .ok (.invokestatic 150, 3) := dk_184 0 150 (dk_at dksX4_letters_4 21 rfl rfl)
theorem dX4_letters_152 : decode cX4_letters 152 = .ok (.lreturn, 1) := dk_173 (dk_at dksX4_letters_5 0 rfl rfl)
theorem dX4_letters_153 : decode cX4_letters 153 = .ok (.bipush 100, 2) := dk_16 100 (dk_at dksX4_letters_5 1 rfl rfl)
theorem dX4_letters_155 : decode cX4_letters 155 = .ok (.bipush 97, 2) := dk_16 97 (dk_at dksX4_letters_5 3 rfl rfl)
theorem dX4_letters_157 : decode cX4_letters 157 = .ok (.bipush 121, 2) := dk_16 121 (dk_at dksX4_letters_5 5 rfl rfl)
theorem dX4_letters_159 : decode cX4_letters 159 = .ok (.iconst 0, 1) := dk_3 (dk_at dksX4_letters_5 7 rfl rfl)
theorem dX4_letters_160 : decode cX4_letters 160 = .ok (.iconst 0, 1) := dk_3 (dk_at dksX4_letters_5 8 rfl rfl)
theorem dX4_letters_161 : decode cX4_letters 161 = .ok (.iconst 0, 1) := dk_3 (dk_at dksX4_letters_5 9 rfl rfl)
theorem dX4_letters_162 : decode cX4_letters 162 = .ok (.invokestatic 150, 3) := dk_184 0 150 (dk_at dksX4_letters_5 10 rfl rfl)
theorem dX4_letters_165 : decode cX4_letters 165 = .ok (.lreturn, 1) := dk_173 (dk_at dksX4_letters_5 13 rfl rfl)
theorem dX4_letters_166 : decode cX4_letters 166 = .ok (.bipush 115, 2) := dk_16 115 (dk_at dksX4_letters_5 14 rfl rfl)
theorem dX4_letters_168 : decode cX4_letters 168 = .ok (.bipush 104, 2) := dk_16 104 (dk_at dksX4_letters_5 16 rfl rfl)
theorem dX4_letters_170 : decode cX4_letters 170 = .ok (.bipush 101, 2) := dk_16 101 (dk_at dksX4_letters_5 18 rfl rfl)
theorem dX4_letters_172 : decode cX4_letters 172 = .ok (.bipush 101, 2) := dk_16 101 (dk_at dksX4_letters_5 20 rfl rfl)
theorem dX4_letters_174 : decode cX4_letters 174 = .ok (.bipush 116, 2) := dk_16 116 (dk_at dksX4_letters_5 22 rfl rfl)
theorem dX4_letters_176 : decode cX4_letters 176 = .ok (.bipush 115, 2) := dk_16 115 (dk_at dksX4_letters_6 0 rfl rfl)
theorem dX4_letters_178 : decode cX4_letters 178 = .ok (.invokestatic 150, 3) := dk_184 0 150 (dk_at dksX4_letters_6 2 rfl rfl)
theorem dX4_letters_181 : decode cX4_letters 181 = .ok (.lreturn, 1) := dk_173 (dk_at dksX4_letters_6 5 rfl rfl)
theorem dX4_letters_182 : decode cX4_letters 182 = .ok (.bipush 99, 2) := dk_16 99 (dk_at dksX4_letters_6 6 rfl rfl)
theorem dX4_letters_184 : decode cX4_letters 184 = .ok (.bipush 108, 2) := dk_16 108 (dk_at dksX4_letters_6 8 rfl rfl)
theorem dX4_letters_186 : decode cX4_letters 186 = .ok (.bipush 101, 2) := dk_16 101 (dk_at dksX4_letters_6 10 rfl rfl)
theorem dX4_letters_188 : decode cX4_letters 188 = .ok (.bipush 114, 2) := dk_16 114 (dk_at dksX4_letters_6 12 rfl rfl)
theorem dX4_letters_190 : decode cX4_letters 190 = .ok (.bipush 107, 2) := dk_16 107 (dk_at dksX4_letters_6 14 rfl rfl)
theorem dX4_letters_192 : decode cX4_letters 192 = .ok (.bipush 115, 2) := dk_16 115 (dk_at dksX4_letters_6 16 rfl rfl)
theorem dX4_letters_194 : decode cX4_letters 194 = .ok (.invokestatic 150, 3) := dk_184 0 150 (dk_at dksX4_letters_6 18 rfl rfl)
theorem dX4_letters_197 : decode cX4_letters 197 = .ok (.lreturn, 1) := dk_173 (dk_at dksX4_letters_6 21 rfl rfl)
theorem dX4_letters_198 : decode cX4_letters 198 = .ok (.bipush 107, 2) := dk_16 107 (dk_at dksX4_letters_6 22 rfl rfl)
theorem dX4_letters_200 : decode cX4_letters 200 = .ok (.bipush 110, 2) := dk_16 110 (dk_at dksX4_letters_7 0 rfl rfl)
theorem dX4_letters_202 : decode cX4_letters 202 = .ok (.bipush 111, 2) := dk_16 111 (dk_at dksX4_letters_7 2 rfl rfl)
theorem dX4_letters_204 : decode cX4_letters 204 = .ok (.bipush 119, 2) := dk_16 119 (dk_at dksX4_letters_7 4 rfl rfl)
theorem dX4_letters_206 : decode cX4_letters 206 = .ok (.bipush 110, 2) := dk_16 110 (dk_at dksX4_letters_7 6 rfl rfl)
theorem dX4_letters_208 : decode cX4_letters 208 = .ok (.iconst 0, 1) := dk_3 (dk_at dksX4_letters_7 8 rfl rfl)
theorem dX4_letters_209 : decode cX4_letters 209 = .ok (.invokestatic 150, 3) := dk_184 0 150 (dk_at dksX4_letters_7 9 rfl rfl)
theorem dX4_letters_212 : decode cX4_letters 212 = .ok (.lreturn, 1) := dk_173 (dk_at dksX4_letters_7 12 rfl rfl)
theorem dX4_letters_213 : decode cX4_letters 213 = .ok (.bipush 99, 2) := dk_16 99 (dk_at dksX4_letters_7 13 rfl rfl)
theorem dX4_letters_215 : decode cX4_letters 215 = .ok (.bipush 108, 2) := dk_16 108 (dk_at dksX4_letters_7 15 rfl rfl)
theorem dX4_letters_217 : decode cX4_letters 217 = .ok (.bipush 101, 2) := dk_16 101 (dk_at dksX4_letters_7 17 rfl rfl)
theorem dX4_letters_219 : decode cX4_letters 219 = .ok (.bipush 114, 2) := dk_16 114 (dk_at dksX4_letters_7 19 rfl rfl)
theorem dX4_letters_221 : decode cX4_letters 221 = .ok (.bipush 107, 2) := dk_16 107 (dk_at dksX4_letters_7 21 rfl rfl)
theorem dX4_letters_223 : decode cX4_letters 223 = .ok (.iconst 0, 1) := dk_3 (dk_at dksX4_letters_7 23 rfl rfl)
theorem dX4_letters_224 : decode cX4_letters 224 = .ok (.invokestatic 150, 3) := dk_184 0 150 (dk_at dksX4_letters_8 0 rfl rfl)
theorem dX4_letters_227 : decode cX4_letters 227 = .ok (.lreturn, 1) := dk_173 (dk_at dksX4_letters_8 3 rfl rfl)
theorem dX4_letters_228 : decode cX4_letters 228 = .ok (.bipush 119, 2) := dk_16 119 (dk_at dksX4_letters_8 4 rfl rfl)
theorem dX4_letters_230 : decode cX4_letters 230 = .ok (.bipush 111, 2) := dk_16 111 (dk_at dksX4_letters_8 6 rfl rfl)
theorem dX4_letters_232 : decode cX4_letters 232 = .ok (.bipush 114, 2) := dk_16 114 (dk_at dksX4_letters_8 8 rfl rfl)
theorem dX4_letters_234 : decode cX4_letters 234 = .ok (.bipush 100, 2) := dk_16 100 (dk_at dksX4_letters_8 10 rfl rfl)
theorem dX4_letters_236 : decode cX4_letters 236 = .ok (.iconst 0, 1) := dk_3 (dk_at dksX4_letters_8 12 rfl rfl)
theorem dX4_letters_237 : decode cX4_letters 237 = .ok (.iconst 0, 1) := dk_3 (dk_at dksX4_letters_8 13 rfl rfl)
theorem dX4_letters_238 : decode cX4_letters 238 = .ok (.invokestatic 150, 3) := dk_184 0 150 (dk_at dksX4_letters_8 14 rfl rfl)
theorem dX4_letters_241 : decode cX4_letters 241 = .ok (.lreturn, 1) := dk_173 (dk_at dksX4_letters_8 17 rfl rfl)
theorem dX4_letters_242 : decode cX4_letters 242 = .ok (.bipush 115, 2) := dk_16 115 (dk_at dksX4_letters_8 18 rfl rfl)
theorem dX4_letters_244 : decode cX4_letters 244 = .ok (.bipush 108, 2) := dk_16 108 (dk_at dksX4_letters_8 20 rfl rfl)
theorem dX4_letters_246 : decode cX4_letters 246 = .ok (.bipush 97, 2) := dk_16 97 (dk_at dksX4_letters_8 22 rfl rfl)
theorem dX4_letters_248 : decode cX4_letters 248 = .ok (.bipush 99, 2) := dk_16 99 (dk_at dksX4_letters_9 0 rfl rfl)
theorem dX4_letters_250 : decode cX4_letters 250 = .ok (.bipush 107, 2) := dk_16 107 (dk_at dksX4_letters_9 2 rfl rfl)
theorem dX4_letters_252 : decode cX4_letters 252 = .ok (.iconst 0, 1) := dk_3 (dk_at dksX4_letters_9 4 rfl rfl)
theorem dX4_letters_253 : decode cX4_letters 253 = .ok (.invokestatic 150, 3) := dk_184 0 150 (dk_at dksX4_letters_9 5 rfl rfl)
theorem dX4_letters_256 : decode cX4_letters 256 = .ok (.lreturn, 1) := dk_173 (dk_at dksX4_letters_9 8 rfl rfl)
theorem dX4_letters_257 : decode cX4_letters 257 = .ok (.bipush 108, 2) := dk_16 108 (dk_at dksX4_letters_9 9 rfl rfl)
theorem dX4_letters_259 : decode cX4_letters 259 = .ok (.bipush 97, 2) := dk_16 97 (dk_at dksX4_letters_9 11 rfl rfl)
theorem dX4_letters_261 : decode cX4_letters 261 = .ok (.bipush 121, 2) := dk_16 121 (dk_at dksX4_letters_9 13 rfl rfl)
theorem dX4_letters_263 : decode cX4_letters 263 = .ok (.bipush 115, 2) := dk_16 115 (dk_at dksX4_letters_9 15 rfl rfl)
theorem dX4_letters_265 : decode cX4_letters 265 = .ok (.iconst 0, 1) := dk_3 (dk_at dksX4_letters_9 17 rfl rfl)
theorem dX4_letters_266 : decode cX4_letters 266 = .ok (.iconst 0, 1) := dk_3 (dk_at dksX4_letters_9 18 rfl rfl)
theorem dX4_letters_267 : decode cX4_letters 267 = .ok (.invokestatic 150, 3) := dk_184 0 150 (dk_at dksX4_letters_9 19 rfl rfl)
theorem dX4_letters_270 : decode cX4_letters 270 = .ok (.lreturn, 1) := dk_173 (dk_at dksX4_letters_9 22 rfl rfl)
theorem dX4_letters_271 : decode cX4_letters 271 = .ok (.bipush 109, 2) := dk_16 109 (dk_at dksX4_letters_10 0 rfl rfl)
theorem dX4_letters_273 : decode cX4_letters 273 = .ok (.bipush 111, 2) := dk_16 111 (dk_at dksX4_letters_10 2 rfl rfl)
theorem dX4_letters_275 : decode cX4_letters 275 = .ok (.bipush 117, 2) := dk_16 117 (dk_at dksX4_letters_10 4 rfl rfl)
theorem dX4_letters_277 : decode cX4_letters 277 = .ok (.bipush 108, 2) := dk_16 108 (dk_at dksX4_letters_10 6 rfl rfl)
theorem dX4_letters_279 : decode cX4_letters 279 = .ok (.bipush 100, 2) := dk_16 100 (dk_at dksX4_letters_10 8 rfl rfl)
theorem dX4_letters_281 : decode cX4_letters 281 = .ok (.bipush 115, 2) := dk_16 115 (dk_at dksX4_letters_10 10 rfl rfl)
theorem dX4_letters_283 : decode cX4_letters 283 = .ok (.invokestatic 150, 3) := dk_184 0 150 (dk_at dksX4_letters_10 12 rfl rfl)
theorem dX4_letters_286 : decode cX4_letters 286 = .ok (.lreturn, 1) := dk_173 (dk_at dksX4_letters_10 15 rfl rfl)
theorem dX4_letters_287 : decode cX4_letters 287 = .ok (.bipush 97, 2) := dk_16 97 (dk_at dksX4_letters_10 16 rfl rfl)
theorem dX4_letters_289 : decode cX4_letters 289 = .ok (.bipush 110, 2) := dk_16 110 (dk_at dksX4_letters_10 18 rfl rfl)
theorem dX4_letters_291 : decode cX4_letters 291 = .ok (.bipush 100, 2) := dk_16 100 (dk_at dksX4_letters_10 20 rfl rfl)
theorem dX4_letters_293 : decode cX4_letters 293 = .ok (.iconst 0, 1) := dk_3 (dk_at dksX4_letters_10 22 rfl rfl)
theorem dX4_letters_294 : decode cX4_letters 294 = .ok (.iconst 0, 1) := dk_3 (dk_at dksX4_letters_10 23 rfl rfl)
theorem dX4_letters_295 : decode cX4_letters 295 = .ok (.iconst 0, 1) := dk_3 (dk_at dksX4_letters_11 0 rfl rfl)
theorem dX4_letters_296 : decode cX4_letters 296 = .ok (.invokestatic 150, 3) := dk_184 0 150 (dk_at dksX4_letters_11 1 rfl rfl)
theorem dX4_letters_299 : decode cX4_letters 299 = .ok (.lreturn, 1) := dk_173 (dk_at dksX4_letters_11 4 rfl rfl)
theorem dX4_letters_300 : decode cX4_letters 300 = .ok (.bipush 111, 2) := dk_16 111 (dk_at dksX4_letters_11 5 rfl rfl)
theorem dX4_letters_302 : decode cX4_letters 302 = .ok (.bipush 114, 2) := dk_16 114 (dk_at dksX4_letters_11 7 rfl rfl)
theorem dX4_letters_304 : decode cX4_letters 304 = .ok (.iconst 0, 1) := dk_3 (dk_at dksX4_letters_11 9 rfl rfl)
theorem dX4_letters_305 : decode cX4_letters 305 = .ok (.iconst 0, 1) := dk_3 (dk_at dksX4_letters_11 10 rfl rfl)
theorem dX4_letters_306 : decode cX4_letters 306 = .ok (.iconst 0, 1) := dk_3 (dk_at dksX4_letters_11 11 rfl rfl)
theorem dX4_letters_307 : decode cX4_letters 307 = .ok (.iconst 0, 1) := dk_3 (dk_at dksX4_letters_11 12 rfl rfl)
theorem dX4_letters_308 : decode cX4_letters 308 = .ok (.invokestatic 150, 3) := dk_184 0 150 (dk_at dksX4_letters_11 13 rfl rfl)
theorem dX4_letters_311 : decode cX4_letters 311 = .ok (.lreturn, 1) := dk_173 (dk_at dksX4_letters_11 16 rfl rfl)
theorem dX4_letters_312 : decode cX4_letters 312 = .ok (.bipush 110, 2) := dk_16 110 (dk_at dksX4_letters_11 17 rfl rfl)
theorem dX4_letters_314 : decode cX4_letters 314 = .ok (.bipush 111, 2) := dk_16 111 (dk_at dksX4_letters_11 19 rfl rfl)
theorem dX4_letters_316 : decode cX4_letters 316 = .ok (.bipush 116, 2) := dk_16 116 (dk_at dksX4_letters_11 21 rfl rfl)
theorem dX4_letters_318 : decode cX4_letters 318 = .ok (.iconst 0, 1) := dk_3 (dk_at dksX4_letters_11 23 rfl rfl)
theorem dX4_letters_319 : decode cX4_letters 319 = .ok (.iconst 0, 1) := dk_3 (dk_at dksX4_letters_12 0 rfl rfl)
theorem dX4_letters_320 : decode cX4_letters 320 = .ok (.iconst 0, 1) := dk_3 (dk_at dksX4_letters_12 1 rfl rfl)
theorem dX4_letters_321 : decode cX4_letters 321 = .ok (.invokestatic 150, 3) := dk_184 0 150 (dk_at dksX4_letters_12 2 rfl rfl)
theorem dX4_letters_324 : decode cX4_letters 324 = .ok (.lreturn, 1) := dk_173 (dk_at dksX4_letters_12 5 rfl rfl)
abbrev cX4_spelled : ByteArray := prog_12_method_14_code
def yX4_spelled : MethodName := ⟨RX4, "spelled", "(IIIIII)J"⟩
def dkwX4_spelled_3 : List UInt8 := [22, 6, 8, 121, 21, 5, 16, 96, 100, 133, 129, 55, 6, 22, 6, 173]
abbrev dktX4_spelled_3 : List UInt8 := dkwX4_spelled_3 ++ []
def dkwX4_spelled_2 : List UInt8 := [21, 4, 153, 0, 16, 22, 6, 8, 121, 21, 4, 16, 96, 100, 133, 129, 55, 6, 21, 5, 153, 0, 16]
abbrev dktX4_spelled_2 : List UInt8 := dkwX4_spelled_2 ++ dktX4_spelled_3
def dkwX4_spelled_1 : List UInt8 := [28, 16, 96, 100, 133, 129, 55, 6, 29, 153, 0, 15, 22, 6, 8, 121, 29, 16, 96, 100, 133, 129, 55, 6]
abbrev dktX4_spelled_1 : List UInt8 := dkwX4_spelled_1 ++ dktX4_spelled_2
def dkwX4_spelled_0 : List UInt8 := [26, 133, 20, 0, 148, 101, 8, 121, 27, 16, 96, 100, 133, 129, 55, 6, 28, 153, 0, 15, 22, 6, 8, 121]
abbrev dktX4_spelled_0 : List UInt8 := dkwX4_spelled_0 ++ dktX4_spelled_1
theorem dksX4_spelled_0 : cX4_spelled.data.toList.drop 0 = dktX4_spelled_0 := by decide +kernel
theorem dksX4_spelled_1 : cX4_spelled.data.toList.drop 24 = dktX4_spelled_1 := dk_seg dksX4_spelled_0 24 rfl rfl
theorem dksX4_spelled_2 : cX4_spelled.data.toList.drop 48 = dktX4_spelled_2 := dk_seg dksX4_spelled_1 24 rfl rfl
theorem dksX4_spelled_3 : cX4_spelled.data.toList.drop 71 = dktX4_spelled_3 := dk_seg dksX4_spelled_2 23 rfl rfl
theorem dX4_spelled_0 : decode cX4_spelled 0 = .ok (.iload_n 0, 1) := dk_26 (dk_at dksX4_spelled_0 0 rfl rfl)
theorem dX4_spelled_1 : decode cX4_spelled 1 = .ok (.i2l, 1) := dk_133 (dk_at dksX4_spelled_0 1 rfl rfl)
theorem dX4_spelled_2 : decode cX4_spelled 2 = .ok (.ldc2_w 148, 3) := dk_20 0 148 (dk_at dksX4_spelled_0 2 rfl rfl)
theorem dX4_spelled_5 : decode cX4_spelled 5 = .ok (.lsub, 1) := dk_101 (dk_at dksX4_spelled_0 5 rfl rfl)
theorem dX4_spelled_6 : decode cX4_spelled 6 = .ok (.iconst 5, 1) := dk_8 (dk_at dksX4_spelled_0 6 rfl rfl)
theorem dX4_spelled_7 : decode cX4_spelled 7 = .ok (.lshl, 1) := dk_121 (dk_at dksX4_spelled_0 7 rfl rfl)
theorem dX4_spelled_8 : decode cX4_spelled 8 = .ok (.iload_n 1, 1) := dk_27 (dk_at dksX4_spelled_0 8 rfl rfl)
theorem dX4_spelled_9 : decode cX4_spelled 9 = .ok (.bipush 96, 2) := dk_16 96 (dk_at dksX4_spelled_0 9 rfl rfl)
theorem dX4_spelled_11 : decode cX4_spelled 11 = .ok (.isub, 1) := dk_100 (dk_at dksX4_spelled_0 11 rfl rfl)
theorem dX4_spelled_12 : decode cX4_spelled 12 = .ok (.i2l, 1) := dk_133 (dk_at dksX4_spelled_0 12 rfl rfl)
theorem dX4_spelled_13 : decode cX4_spelled 13 = .ok (.lor, 1) := dk_129 (dk_at dksX4_spelled_0 13 rfl rfl)
theorem dX4_spelled_14 : decode cX4_spelled 14 = .ok (.lstore 6, 2) := dk_55 6 (dk_at dksX4_spelled_0 14 rfl rfl)
theorem dX4_spelled_16 : decode cX4_spelled 16 = .ok (.iload_n 2, 1) := dk_28 (dk_at dksX4_spelled_0 16 rfl rfl)
theorem dX4_spelled_17 : decode cX4_spelled 17 = .ok (.ifCond .eq 15, 3) := dk_153 0 15 (dk_at dksX4_spelled_0 17 rfl rfl)
theorem dX4_spelled_20 : decode cX4_spelled 20 = .ok (.lload 6, 2) := dk_22 6 (dk_at dksX4_spelled_0 20 rfl rfl)
theorem dX4_spelled_22 : decode cX4_spelled 22 = .ok (.iconst 5, 1) := dk_8 (dk_at dksX4_spelled_0 22 rfl rfl)
theorem dX4_spelled_23 : decode cX4_spelled 23 = .ok (.lshl, 1) := dk_121 (dk_at dksX4_spelled_0 23 rfl rfl)
theorem dX4_spelled_24 : decode cX4_spelled 24 = .ok (.iload_n 2, 1) := dk_28 (dk_at dksX4_spelled_1 0 rfl rfl)
theorem dX4_spelled_25 : decode cX4_spelled 25 = .ok (.bipush 96, 2) := dk_16 96 (dk_at dksX4_spelled_1 1 rfl rfl)
theorem dX4_spelled_27 : decode cX4_spelled 27 = .ok (.isub, 1) := dk_100 (dk_at dksX4_spelled_1 3 rfl rfl)
theorem dX4_spelled_28 : decode cX4_spelled 28 = .ok (.i2l, 1) := dk_133 (dk_at dksX4_spelled_1 4 rfl rfl)
theorem dX4_spelled_29 : decode cX4_spelled 29 = .ok (.lor, 1) := dk_129 (dk_at dksX4_spelled_1 5 rfl rfl)
theorem dX4_spelled_30 : decode cX4_spelled 30 = .ok (.lstore 6, 2) := dk_55 6 (dk_at dksX4_spelled_1 6 rfl rfl)
theorem dX4_spelled_32 : decode cX4_spelled 32 = .ok (.iload_n 3, 1) := dk_29 (dk_at dksX4_spelled_1 8 rfl rfl)
theorem dX4_spelled_33 : decode cX4_spelled 33 = .ok (.ifCond .eq 15, 3) := dk_153 0 15 (dk_at dksX4_spelled_1 9 rfl rfl)
theorem dX4_spelled_36 : decode cX4_spelled 36 = .ok (.lload 6, 2) := dk_22 6 (dk_at dksX4_spelled_1 12 rfl rfl)
theorem dX4_spelled_38 : decode cX4_spelled 38 = .ok (.iconst 5, 1) := dk_8 (dk_at dksX4_spelled_1 14 rfl rfl)
theorem dX4_spelled_39 : decode cX4_spelled 39 = .ok (.lshl, 1) := dk_121 (dk_at dksX4_spelled_1 15 rfl rfl)
theorem dX4_spelled_40 : decode cX4_spelled 40 = .ok (.iload_n 3, 1) := dk_29 (dk_at dksX4_spelled_1 16 rfl rfl)
theorem dX4_spelled_41 : decode cX4_spelled 41 = .ok (.bipush 96, 2) := dk_16 96 (dk_at dksX4_spelled_1 17 rfl rfl)
theorem dX4_spelled_43 : decode cX4_spelled 43 = .ok (.isub, 1) := dk_100 (dk_at dksX4_spelled_1 19 rfl rfl)
theorem dX4_spelled_44 : decode cX4_spelled 44 = .ok (.i2l, 1) := dk_133 (dk_at dksX4_spelled_1 20 rfl rfl)
theorem dX4_spelled_45 : decode cX4_spelled 45 = .ok (.lor, 1) := dk_129 (dk_at dksX4_spelled_1 21 rfl rfl)
theorem dX4_spelled_46 : decode cX4_spelled 46 = .ok (.lstore 6, 2) := dk_55 6 (dk_at dksX4_spelled_1 22 rfl rfl)
theorem dX4_spelled_48 : decode cX4_spelled 48 = .ok (.iload 4, 2) := dk_21 4 (dk_at dksX4_spelled_2 0 rfl rfl)
theorem dX4_spelled_50 : decode cX4_spelled 50 = .ok (.ifCond .eq 16, 3) := dk_153 0 16 (dk_at dksX4_spelled_2 2 rfl rfl)
theorem dX4_spelled_53 : decode cX4_spelled 53 = .ok (.lload 6, 2) := dk_22 6 (dk_at dksX4_spelled_2 5 rfl rfl)
theorem dX4_spelled_55 : decode cX4_spelled 55 = .ok (.iconst 5, 1) := dk_8 (dk_at dksX4_spelled_2 7 rfl rfl)
theorem dX4_spelled_56 : decode cX4_spelled 56 = .ok (.lshl, 1) := dk_121 (dk_at dksX4_spelled_2 8 rfl rfl)
theorem dX4_spelled_57 : decode cX4_spelled 57 = .ok (.iload 4, 2) := dk_21 4 (dk_at dksX4_spelled_2 9 rfl rfl)
theorem dX4_spelled_59 : decode cX4_spelled 59 = .ok (.bipush 96, 2) := dk_16 96 (dk_at dksX4_spelled_2 11 rfl rfl)
theorem dX4_spelled_61 : decode cX4_spelled 61 = .ok (.isub, 1) := dk_100 (dk_at dksX4_spelled_2 13 rfl rfl)
theorem dX4_spelled_62 : decode cX4_spelled 62 = .ok (.i2l, 1) := dk_133 (dk_at dksX4_spelled_2 14 rfl rfl)
theorem dX4_spelled_63 : decode cX4_spelled 63 = .ok (.lor, 1) := dk_129 (dk_at dksX4_spelled_2 15 rfl rfl)
theorem dX4_spelled_64 : decode cX4_spelled 64 = .ok (.lstore 6, 2) := dk_55 6 (dk_at dksX4_spelled_2 16 rfl rfl)
theorem dX4_spelled_66 : decode cX4_spelled 66 = .ok (.iload 5, 2) := dk_21 5 (dk_at dksX4_spelled_2 18 rfl rfl)
theorem dX4_spelled_68 : decode cX4_spelled 68 = .ok (.ifCond .eq 16, 3) := dk_153 0 16 (dk_at dksX4_spelled_2 20 rfl rfl)
theorem dX4_spelled_71 : decode cX4_spelled 71 = .ok (.lload 6, 2) := dk_22 6 (dk_at dksX4_spelled_3 0 rfl rfl)
theorem dX4_spelled_73 : decode cX4_spelled 73 = .ok (.iconst 5, 1) := dk_8 (dk_at dksX4_spelled_3 2 rfl rfl)
theorem dX4_spelled_74 : decode cX4_spelled 74 = .ok (.lshl, 1) := dk_121 (dk_at dksX4_spelled_3 3 rfl rfl)
theorem dX4_spelled_75 : decode cX4_spelled 75 = .ok (.iload 5, 2) := dk_21 5 (dk_at dksX4_spelled_3 4 rfl rfl)
theorem dX4_spelled_77 : decode cX4_spelled 77 = .ok (.bipush 96, 2) := dk_16 96 (dk_at dksX4_spelled_3 6 rfl rfl)
theorem dX4_spelled_79 : decode cX4_spelled 79 = .ok (.isub, 1) := dk_100 (dk_at dksX4_spelled_3 8 rfl rfl)
theorem dX4_spelled_80 : decode cX4_spelled 80 = .ok (.i2l, 1) := dk_133 (dk_at dksX4_spelled_3 9 rfl rfl)
theorem dX4_spelled_81 : decode cX4_spelled 81 = .ok (.lor, 1) := dk_129 (dk_at dksX4_spelled_3 10 rfl rfl)
theorem dX4_spelled_82 : decode cX4_spelled 82 = .ok (.lstore 6, 2) := dk_55 6 (dk_at dksX4_spelled_3 11 rfl rfl)
theorem dX4_spelled_84 : decode cX4_spelled 84 = .ok (.lload 6, 2) := dk_22 6 (dk_at dksX4_spelled_3 13 rfl rfl)
theorem dX4_spelled_86 : decode cX4_spelled 86 = .ok (.lreturn, 1) := dk_173 (dk_at dksX4_spelled_3 15 rfl rfl)
abbrev cX4_begins : ByteArray := prog_12_method_34_code
def yX4_begins : MethodName := ⟨RX4, "begins", "(ZZ)Z"⟩
def dkwX4_begins_1 : List UInt8 := [154, 0, 5, 3, 172, 42, 182, 0, 165, 4, 172]
abbrev dktX4_begins_1 : List UInt8 := dkwX4_begins_1 ++ []
def dkwX4_begins_0 : List UInt8 := [27, 153, 0, 8, 42, 5, 182, 0, 168, 28, 153, 0, 8, 42, 8, 182, 0, 168, 42, 182, 0, 161]
abbrev dktX4_begins_0 : List UInt8 := dkwX4_begins_0 ++ dktX4_begins_1
theorem dksX4_begins_0 : cX4_begins.data.toList.drop 0 = dktX4_begins_0 := by decide +kernel
theorem dksX4_begins_1 : cX4_begins.data.toList.drop 22 = dktX4_begins_1 := dk_seg dksX4_begins_0 22 rfl rfl
theorem dX4_begins_0 : decode cX4_begins 0 = .ok (.iload_n 1, 1) := dk_27 (dk_at dksX4_begins_0 0 rfl rfl)
theorem dX4_begins_1 : decode cX4_begins 1 = .ok (.ifCond .eq 8, 3) := dk_153 0 8 (dk_at dksX4_begins_0 1 rfl rfl)
theorem dX4_begins_4 : decode cX4_begins 4 = .ok (.aload_n 0, 1) := dk_42 (dk_at dksX4_begins_0 4 rfl rfl)
theorem dX4_begins_5 : decode cX4_begins 5 = .ok (.iconst 2, 1) := dk_5 (dk_at dksX4_begins_0 5 rfl rfl)
theorem dX4_begins_6 : decode cX4_begins 6 = .ok (.invokevirtual 168, 3) := dk_182 0 168 (dk_at dksX4_begins_0 6 rfl rfl)
theorem dX4_begins_9 : decode cX4_begins 9 = .ok (.iload_n 2, 1) := dk_28 (dk_at dksX4_begins_0 9 rfl rfl)
theorem dX4_begins_10 : decode cX4_begins 10 = .ok (.ifCond .eq 8, 3) := dk_153 0 8 (dk_at dksX4_begins_0 10 rfl rfl)
theorem dX4_begins_13 : decode cX4_begins 13 = .ok (.aload_n 0, 1) := dk_42 (dk_at dksX4_begins_0 13 rfl rfl)
theorem dX4_begins_14 : decode cX4_begins 14 = .ok (.iconst 5, 1) := dk_8 (dk_at dksX4_begins_0 14 rfl rfl)
theorem dX4_begins_15 : decode cX4_begins 15 = .ok (.invokevirtual 168, 3) := dk_182 0 168 (dk_at dksX4_begins_0 15 rfl rfl)
theorem dX4_begins_18 : decode cX4_begins 18 = .ok (.aload_n 0, 1) := dk_42 (dk_at dksX4_begins_0 18 rfl rfl)
theorem dX4_begins_19 : decode cX4_begins 19 = .ok (.invokevirtual 161, 3) := dk_182 0 161 (dk_at dksX4_begins_0 19 rfl rfl)
theorem dX4_begins_22 : decode cX4_begins 22 = .ok (.ifCond .ne 5, 3) := dk_154 0 5 (dk_at dksX4_begins_1 0 rfl rfl)
theorem dX4_begins_25 : decode cX4_begins 25 = .ok (.iconst 0, 1) := dk_3 (dk_at dksX4_begins_1 3 rfl rfl)
theorem dX4_begins_26 : decode cX4_begins 26 = .ok (.ireturn, 1) := dk_172 (dk_at dksX4_begins_1 4 rfl rfl)
theorem dX4_begins_27 : decode cX4_begins 27 = .ok (.aload_n 0, 1) := dk_42 (dk_at dksX4_begins_1 5 rfl rfl)
theorem dX4_begins_28 : decode cX4_begins 28 = .ok (.invokevirtual 165, 3) := dk_182 0 165 (dk_at dksX4_begins_1 6 rfl rfl)
theorem dX4_begins_31 : decode cX4_begins 31 = .ok (.iconst 1, 1) := dk_4 (dk_at dksX4_begins_1 9 rfl rfl)
theorem dX4_begins_32 : decode cX4_begins 32 = .ok (.ireturn, 1) := dk_172 (dk_at dksX4_begins_1 10 rfl rfl)
abbrev cX4_wrong : ByteArray := prog_12_method_17_code
def yX4_wrong : MethodName := ⟨RX4, "wrong", "(I)V"⟩
def dkwX4_wrong_0 : List UInt8 := [42, 180, 0, 158, 153, 0, 4, 177, 42, 27, 181, 0, 158, 42, 42, 180, 0, 122, 181, 0, 35, 177]
abbrev dktX4_wrong_0 : List UInt8 := dkwX4_wrong_0 ++ []
theorem dksX4_wrong_0 : cX4_wrong.data.toList.drop 0 = dktX4_wrong_0 := by decide +kernel
theorem dX4_wrong_0 : decode cX4_wrong 0 = .ok (.aload_n 0, 1) := dk_42 (dk_at dksX4_wrong_0 0 rfl rfl)
theorem dX4_wrong_1 : decode cX4_wrong 1 = .ok (.getfield 158, 3) := dk_180 0 158 (dk_at dksX4_wrong_0 1 rfl rfl)
theorem dX4_wrong_4 : decode cX4_wrong 4 = .ok (.ifCond .eq 4, 3) := dk_153 0 4 (dk_at dksX4_wrong_0 4 rfl rfl)
theorem dX4_wrong_7 : decode cX4_wrong 7 = .ok (.return_, 1) := dk_177 (dk_at dksX4_wrong_0 7 rfl rfl)
theorem dX4_wrong_8 : decode cX4_wrong 8 = .ok (.aload_n 0, 1) := dk_42 (dk_at dksX4_wrong_0 8 rfl rfl)
theorem dX4_wrong_9 : decode cX4_wrong 9 = .ok (.iload_n 1, 1) := dk_27 (dk_at dksX4_wrong_0 9 rfl rfl)
theorem dX4_wrong_10 : decode cX4_wrong 10 = .ok (.putfield 158, 3) := dk_181 0 158 (dk_at dksX4_wrong_0 10 rfl rfl)
theorem dX4_wrong_13 : decode cX4_wrong 13 = .ok (.aload_n 0, 1) := dk_42 (dk_at dksX4_wrong_0 13 rfl rfl)
theorem dX4_wrong_14 : decode cX4_wrong 14 = .ok (.aload_n 0, 1) := dk_42 (dk_at dksX4_wrong_0 14 rfl rfl)
theorem dX4_wrong_15 : decode cX4_wrong 15 = .ok (.getfield 122, 3) := dk_180 0 122 (dk_at dksX4_wrong_0 15 rfl rfl)
theorem dX4_wrong_18 : decode cX4_wrong 18 = .ok (.putfield 35, 3) := dk_181 0 35 (dk_at dksX4_wrong_0 18 rfl rfl)
theorem dX4_wrong_21 : decode cX4_wrong 21 = .ok (.return_, 1) := dk_177 (dk_at dksX4_wrong_0 21 rfl rfl)
abbrev cX4_readsSheet : ByteArray := prog_12_method_35_code
def yX4_readsSheet : MethodName := ⟨RX4, "readsSheet", "()V"⟩
def dkwX4_readsSheet_3 : List UInt8 := [177]
abbrev dktX4_readsSheet_3 : List UInt8 := dkwX4_readsSheet_3 ++ []
def dkwX4_readsSheet_2 : List UInt8 := [42, 3, 6, 182, 0, 227, 79, 42, 182, 0, 161, 153, 0, 13, 42, 89, 180, 0, 224, 4, 96, 181, 0, 224]
abbrev dktX4_readsSheet_2 : List UInt8 := dkwX4_readsSheet_2 ++ dktX4_readsSheet_3
def dkwX4_readsSheet_1 : List UInt8 := [180, 0, 53, 16, 10, 27, 96, 42, 3, 17, 0, 255, 182, 0, 227, 79, 42, 180, 0, 53, 16, 19, 27, 96]
abbrev dktX4_readsSheet_1 : List UInt8 := dkwX4_readsSheet_1 ++ dktX4_readsSheet_2
def dkwX4_readsSheet_0 : List UInt8 := [42, 180, 0, 224, 60, 42, 180, 0, 53, 4, 27, 96, 42, 3, 17, 0, 255, 182, 0, 227, 79, 42]
abbrev dktX4_readsSheet_0 : List UInt8 := dkwX4_readsSheet_0 ++ dktX4_readsSheet_1
theorem dksX4_readsSheet_0 : cX4_readsSheet.data.toList.drop 0 = dktX4_readsSheet_0 := by decide +kernel
theorem dksX4_readsSheet_1 : cX4_readsSheet.data.toList.drop 22 = dktX4_readsSheet_1 := dk_seg dksX4_readsSheet_0 22 rfl rfl
theorem dksX4_readsSheet_2 : cX4_readsSheet.data.toList.drop 46 = dktX4_readsSheet_2 := dk_seg dksX4_readsSheet_1 24 rfl rfl
theorem dksX4_readsSheet_3 : cX4_readsSheet.data.toList.drop 70 = dktX4_readsSheet_3 := dk_seg dksX4_readsSheet_2 24 rfl rfl
theorem dX4_readsSheet_0 : decode cX4_readsSheet 0 = .ok (.aload_n 0, 1) := dk_42 (dk_at dksX4_readsSheet_0 0 rfl rfl)
theorem dX4_readsSheet_1 : decode cX4_readsSheet 1 = .ok (.getfield 224, 3) := dk_180 0 224 (dk_at dksX4_readsSheet_0 1 rfl rfl)
theorem dX4_readsSheet_4 : decode cX4_readsSheet 4 = .ok (.istore_n 1, 1) := dk_60 (dk_at dksX4_readsSheet_0 4 rfl rfl)
theorem dX4_readsSheet_5 : decode cX4_readsSheet 5 = .ok (.aload_n 0, 1) := dk_42 (dk_at dksX4_readsSheet_0 5 rfl rfl)
theorem dX4_readsSheet_6 : decode cX4_readsSheet 6 = .ok (.getfield 53, 3) := dk_180 0 53 (dk_at dksX4_readsSheet_0 6 rfl rfl)
theorem dX4_readsSheet_9 : decode cX4_readsSheet 9 = .ok (.iconst 1, 1) := dk_4 (dk_at dksX4_readsSheet_0 9 rfl rfl)
theorem dX4_readsSheet_10 : decode cX4_readsSheet 10 = .ok (.iload_n 1, 1) := dk_27 (dk_at dksX4_readsSheet_0 10 rfl rfl)
theorem dX4_readsSheet_11 : decode cX4_readsSheet 11 = .ok (.iadd, 1) := dk_96 (dk_at dksX4_readsSheet_0 11 rfl rfl)
theorem dX4_readsSheet_12 : decode cX4_readsSheet 12 = .ok (.aload_n 0, 1) := dk_42 (dk_at dksX4_readsSheet_0 12 rfl rfl)
theorem dX4_readsSheet_13 : decode cX4_readsSheet 13 = .ok (.iconst 0, 1) := dk_3 (dk_at dksX4_readsSheet_0 13 rfl rfl)
theorem dX4_readsSheet_14 : decode cX4_readsSheet 14 = .ok (.sipush 255, 3) := dk_17 0 255 (dk_at dksX4_readsSheet_0 14 rfl rfl)
theorem dX4_readsSheet_17 : decode cX4_readsSheet 17 = .ok (.invokevirtual 227, 3) := dk_182 0 227 (dk_at dksX4_readsSheet_0 17 rfl rfl)
theorem dX4_readsSheet_20 : decode cX4_readsSheet 20 = .ok (.iastore, 1) := dk_79 (dk_at dksX4_readsSheet_0 20 rfl rfl)
theorem dX4_readsSheet_21 : decode cX4_readsSheet 21 = .ok (.aload_n 0, 1) := dk_42 (dk_at dksX4_readsSheet_0 21 rfl rfl)
theorem dX4_readsSheet_22 : decode cX4_readsSheet 22 = .ok (.getfield 53, 3) := dk_180 0 53 (dk_at dksX4_readsSheet_1 0 rfl rfl)
theorem dX4_readsSheet_25 : decode cX4_readsSheet 25 = .ok (.bipush 10, 2) := dk_16 10 (dk_at dksX4_readsSheet_1 3 rfl rfl)
theorem dX4_readsSheet_27 : decode cX4_readsSheet 27 = .ok (.iload_n 1, 1) := dk_27 (dk_at dksX4_readsSheet_1 5 rfl rfl)
theorem dX4_readsSheet_28 : decode cX4_readsSheet 28 = .ok (.iadd, 1) := dk_96 (dk_at dksX4_readsSheet_1 6 rfl rfl)
theorem dX4_readsSheet_29 : decode cX4_readsSheet 29 = .ok (.aload_n 0, 1) := dk_42 (dk_at dksX4_readsSheet_1 7 rfl rfl)
theorem dX4_readsSheet_30 : decode cX4_readsSheet 30 = .ok (.iconst 0, 1) := dk_3 (dk_at dksX4_readsSheet_1 8 rfl rfl)
theorem dX4_readsSheet_31 : decode cX4_readsSheet 31 = .ok (.sipush 255, 3) := dk_17 0 255 (dk_at dksX4_readsSheet_1 9 rfl rfl)
theorem dX4_readsSheet_34 : decode cX4_readsSheet 34 = .ok (.invokevirtual 227, 3) := dk_182 0 227 (dk_at dksX4_readsSheet_1 12 rfl rfl)
theorem dX4_readsSheet_37 : decode cX4_readsSheet 37 = .ok (.iastore, 1) := dk_79 (dk_at dksX4_readsSheet_1 15 rfl rfl)
theorem dX4_readsSheet_38 : decode cX4_readsSheet 38 = .ok (.aload_n 0, 1) := dk_42 (dk_at dksX4_readsSheet_1 16 rfl rfl)
theorem dX4_readsSheet_39 : decode cX4_readsSheet 39 = .ok (.getfield 53, 3) := dk_180 0 53 (dk_at dksX4_readsSheet_1 17 rfl rfl)
theorem dX4_readsSheet_42 : decode cX4_readsSheet 42 = .ok (.bipush 19, 2) := dk_16 19 (dk_at dksX4_readsSheet_1 20 rfl rfl)
theorem dX4_readsSheet_44 : decode cX4_readsSheet 44 = .ok (.iload_n 1, 1) := dk_27 (dk_at dksX4_readsSheet_1 22 rfl rfl)
theorem dX4_readsSheet_45 : decode cX4_readsSheet 45 = .ok (.iadd, 1) := dk_96 (dk_at dksX4_readsSheet_1 23 rfl rfl)
theorem dX4_readsSheet_46 : decode cX4_readsSheet 46 = .ok (.aload_n 0, 1) := dk_42 (dk_at dksX4_readsSheet_2 0 rfl rfl)
theorem dX4_readsSheet_47 : decode cX4_readsSheet 47 = .ok (.iconst 0, 1) := dk_3 (dk_at dksX4_readsSheet_2 1 rfl rfl)
theorem dX4_readsSheet_48 : decode cX4_readsSheet 48 = .ok (.iconst 3, 1) := dk_6 (dk_at dksX4_readsSheet_2 2 rfl rfl)
theorem dX4_readsSheet_49 : decode cX4_readsSheet 49 = .ok (.invokevirtual 227, 3) := dk_182 0 227 (dk_at dksX4_readsSheet_2 3 rfl rfl)
theorem dX4_readsSheet_52 : decode cX4_readsSheet 52 = .ok (.iastore, 1) := dk_79 (dk_at dksX4_readsSheet_2 6 rfl rfl)
theorem dX4_readsSheet_53 : decode cX4_readsSheet 53 = .ok (.aload_n 0, 1) := dk_42 (dk_at dksX4_readsSheet_2 7 rfl rfl)
theorem dX4_readsSheet_54 : decode cX4_readsSheet 54 = .ok (.invokevirtual 161, 3) := dk_182 0 161 (dk_at dksX4_readsSheet_2 8 rfl rfl)
theorem dX4_readsSheet_57 : decode cX4_readsSheet 57 = .ok (.ifCond .eq 13, 3) := dk_153 0 13 (dk_at dksX4_readsSheet_2 11 rfl rfl)
theorem dX4_readsSheet_60 : decode cX4_readsSheet 60 = .ok (.aload_n 0, 1) := dk_42 (dk_at dksX4_readsSheet_2 14 rfl rfl)
theorem dX4_readsSheet_61 : decode cX4_readsSheet 61 = .ok (.dup, 1) := dk_89 (dk_at dksX4_readsSheet_2 15 rfl rfl)
theorem dX4_readsSheet_62 : decode cX4_readsSheet 62 = .ok (.getfield 224, 3) := dk_180 0 224 (dk_at dksX4_readsSheet_2 16 rfl rfl)
theorem dX4_readsSheet_65 : decode cX4_readsSheet 65 = .ok (.iconst 1, 1) := dk_4 (dk_at dksX4_readsSheet_2 19 rfl rfl)
theorem dX4_readsSheet_66 : decode cX4_readsSheet 66 = .ok (.iadd, 1) := dk_96 (dk_at dksX4_readsSheet_2 20 rfl rfl)
theorem dX4_readsSheet_67 : decode cX4_readsSheet 67 = .ok (.putfield 224, 3) := dk_181 0 224 (dk_at dksX4_readsSheet_2 21 rfl rfl)
theorem dX4_readsSheet_70 : decode cX4_readsSheet 70 = .ok (.return_, 1) := dk_177 (dk_at dksX4_readsSheet_3 0 rfl rfl)
abbrev cX4_number : ByteArray := prog_12_method_21_code
def yX4_number : MethodName := ⟨RX4, "number", "(II)I"⟩
def dkwX4_number_3 : List UInt8 := [29, 172]
abbrev dktX4_number_3 : List UInt8 := dkwX4_number_3 ++ []
def dkwX4_number_2 : List UInt8 := [164, 0, 8, 42, 5, 182, 0, 168, 42, 180, 0, 129, 62, 42, 182, 0, 161, 153, 0, 7, 42, 182, 0, 165]
abbrev dktX4_number_2 : List UInt8 := dkwX4_number_2 ++ dktX4_number_3
def dkwX4_number_1 : List UInt8 := [167, 0, 32, 42, 180, 0, 145, 7, 163, 0, 19, 42, 180, 0, 129, 27, 161, 0, 11, 42, 180, 0, 129, 28]
abbrev dktX4_number_1 : List UInt8 := dkwX4_number_1 ++ dktX4_number_2
def dkwX4_number_0 : List UInt8 := [42, 182, 0, 161, 154, 0, 5, 3, 172, 42, 180, 0, 135, 5, 159, 0, 11, 42, 4, 182, 0, 168]
abbrev dktX4_number_0 : List UInt8 := dkwX4_number_0 ++ dktX4_number_1
theorem dksX4_number_0 : cX4_number.data.toList.drop 0 = dktX4_number_0 := by decide +kernel
theorem dksX4_number_1 : cX4_number.data.toList.drop 22 = dktX4_number_1 := dk_seg dksX4_number_0 22 rfl rfl
theorem dksX4_number_2 : cX4_number.data.toList.drop 46 = dktX4_number_2 := dk_seg dksX4_number_1 24 rfl rfl
theorem dksX4_number_3 : cX4_number.data.toList.drop 70 = dktX4_number_3 := dk_seg dksX4_number_2 24 rfl rfl
theorem dX4_number_0 : decode cX4_number 0 = .ok (.aload_n 0, 1) := dk_42 (dk_at dksX4_number_0 0 rfl rfl)
theorem dX4_number_1 : decode cX4_number 1 = .ok (.invokevirtual 161, 3) := dk_182 0 161 (dk_at dksX4_number_0 1 rfl rfl)
theorem dX4_number_4 : decode cX4_number 4 = .ok (.ifCond .ne 5, 3) := dk_154 0 5 (dk_at dksX4_number_0 4 rfl rfl)
theorem dX4_number_7 : decode cX4_number 7 = .ok (.iconst 0, 1) := dk_3 (dk_at dksX4_number_0 7 rfl rfl)
theorem dX4_number_8 : decode cX4_number 8 = .ok (.ireturn, 1) := dk_172 (dk_at dksX4_number_0 8 rfl rfl)
theorem dX4_number_9 : decode cX4_number 9 = .ok (.aload_n 0, 1) := dk_42 (dk_at dksX4_number_0 9 rfl rfl)
theorem dX4_number_10 : decode cX4_number 10 = .ok (.getfield 135, 3) := dk_180 0 135 (dk_at dksX4_number_0 10 rfl rfl)
theorem dX4_number_13 : decode cX4_number 13 = .ok (.iconst 2, 1) := dk_5 (dk_at dksX4_number_0 13 rfl rfl)
theorem dX4_number_14 : decode cX4_number 14 = .ok (.if_icmp .eq 11, 3) := dk_159 0 11 (dk_at dksX4_number_0 14 rfl rfl)
theorem dX4_number_17 : decode cX4_number 17 = .ok (.aload_n 0, 1) := dk_42 (dk_at dksX4_number_0 17 rfl rfl)
theorem dX4_number_18 : decode cX4_number 18 = .ok (.iconst 1, 1) := dk_4 (dk_at dksX4_number_0 18 rfl rfl)
theorem dX4_number_19 : decode cX4_number 19 = .ok (.invokevirtual 168, 3) := dk_182 0 168 (dk_at dksX4_number_0 19 rfl rfl)
theorem dX4_number_22 : decode cX4_number 22 = .ok (.goto 32, 3) := dk_167 0 32 (dk_at dksX4_number_1 0 rfl rfl)
theorem dX4_number_25 : decode cX4_number 25 = .ok (.aload_n 0, 1) := dk_42 (dk_at dksX4_number_1 3 rfl rfl)
theorem dX4_number_26 : decode cX4_number 26 = .ok (.getfield 145, 3) := dk_180 0 145 (dk_at dksX4_number_1 4 rfl rfl)
theorem dX4_number_29 : decode cX4_number 29 = .ok (.iconst 4, 1) := dk_7 (dk_at dksX4_number_1 7 rfl rfl)
theorem dX4_number_30 : decode cX4_number 30 = .ok (.if_icmp .gt 19, 3) := dk_163 0 19 (dk_at dksX4_number_1 8 rfl rfl)
theorem dX4_number_33 : decode cX4_number 33 = .ok (.aload_n 0, 1) := dk_42 (dk_at dksX4_number_1 11 rfl rfl)
theorem dX4_number_34 : decode cX4_number 34 = .ok (.getfield 129, 3) := dk_180 0 129 (dk_at dksX4_number_1 12 rfl rfl)
theorem dX4_number_37 : decode cX4_number 37 = .ok (.iload_n 1, 1) := dk_27 (dk_at dksX4_number_1 15 rfl rfl)
theorem dX4_number_38 : decode cX4_number 38 = .ok (.if_icmp .lt 11, 3) := dk_161 0 11 (dk_at dksX4_number_1 16 rfl rfl)
theorem dX4_number_41 : decode cX4_number 41 = .ok (.aload_n 0, 1) := dk_42 (dk_at dksX4_number_1 19 rfl rfl)
theorem dX4_number_42 : decode cX4_number 42 = .ok (.getfield 129, 3) := dk_180 0 129 (dk_at dksX4_number_1 20 rfl rfl)
theorem dX4_number_45 : decode cX4_number 45 = .ok (.iload_n 2, 1) := dk_28 (dk_at dksX4_number_1 23 rfl rfl)
theorem dX4_number_46 : decode cX4_number 46 = .ok (.if_icmp .le 8, 3) := dk_164 0 8 (dk_at dksX4_number_2 0 rfl rfl)
theorem dX4_number_49 : decode cX4_number 49 = .ok (.aload_n 0, 1) := dk_42 (dk_at dksX4_number_2 3 rfl rfl)
theorem dX4_number_50 : decode cX4_number 50 = .ok (.iconst 2, 1) := dk_5 (dk_at dksX4_number_2 4 rfl rfl)
theorem dX4_number_51 : decode cX4_number 51 = .ok (.invokevirtual 168, 3) := dk_182 0 168 (dk_at dksX4_number_2 5 rfl rfl)
theorem dX4_number_54 : decode cX4_number 54 = .ok (.aload_n 0, 1) := dk_42 (dk_at dksX4_number_2 8 rfl rfl)
theorem dX4_number_55 : decode cX4_number 55 = .ok (.getfield 129, 3) := dk_180 0 129 (dk_at dksX4_number_2 9 rfl rfl)
theorem dX4_number_58 : decode cX4_number 58 = .ok (.istore_n 3, 1) := dk_62 (dk_at dksX4_number_2 12 rfl rfl)
theorem dX4_number_59 : decode cX4_number 59 = .ok (.aload_n 0, 1) := dk_42 (dk_at dksX4_number_2 13 rfl rfl)
theorem dX4_number_60 : decode cX4_number 60 = .ok (.invokevirtual 161, 3) := dk_182 0 161 (dk_at dksX4_number_2 14 rfl rfl)
theorem dX4_number_63 : decode cX4_number 63 = .ok (.ifCond .eq 7, 3) := dk_153 0 7 (dk_at dksX4_number_2 17 rfl rfl)
theorem dX4_number_66 : decode cX4_number 66 = .ok (.aload_n 0, 1) := dk_42 (dk_at dksX4_number_2 20 rfl rfl)
theorem dX4_number_67 : decode cX4_number 67 = .ok (.invokevirtual 165, 3) := dk_182 0 165 (dk_at dksX4_number_2 21 rfl rfl)
theorem dX4_number_70 : decode cX4_number 70 = .ok (.iload_n 3, 1) := dk_29 (dk_at dksX4_number_3 0 rfl rfl)
theorem dX4_number_71 : decode cX4_number 71 = .ok (.ireturn, 1) := dk_172 (dk_at dksX4_number_3 1 rfl rfl)
abbrev cX4_readsClerk : ByteArray := prog_12_method_36_code
def yX4_readsClerk : MethodName := ⟨RX4, "readsClerk", "()V"⟩
def dkwX4_readsClerk_5 : List UInt8 := [4, 96, 181, 0, 231, 177]
abbrev dktX4_readsClerk_5 : List UInt8 := dkwX4_readsClerk_5 ++ []
def dkwX4_readsClerk_4 : List UInt8 := [3, 62, 167, 255, 180, 42, 180, 0, 44, 27, 28, 79, 42, 182, 0, 161, 153, 0, 13, 42, 89, 180, 0, 231]
abbrev dktX4_readsClerk_4 : List UInt8 := dkwX4_readsClerk_4 ++ dktX4_readsClerk_5
def dkwX4_readsClerk_3 : List UInt8 := [16, 6, 27, 104, 28, 96, 21, 4, 79, 132, 2, 1, 42, 180, 0, 135, 5, 160, 0, 7, 4, 167, 0, 4]
abbrev dktX4_readsClerk_3 : List UInt8 := dkwX4_readsClerk_3 ++ dktX4_readsClerk_4
def dkwX4_readsClerk_2 : List UInt8 := [182, 0, 168, 42, 3, 6, 182, 0, 227, 54, 4, 42, 182, 0, 161, 154, 0, 4, 177, 42, 180, 0, 41]
abbrev dktX4_readsClerk_2 : List UInt8 := dkwX4_readsClerk_2 ++ dktX4_readsClerk_3
def dkwX4_readsClerk_1 : List UInt8 := [182, 0, 161, 153, 0, 71, 28, 16, 6, 160, 0, 16, 42, 180, 0, 135, 5, 160, 0, 8, 42, 5]
abbrev dktX4_readsClerk_1 : List UInt8 := dkwX4_readsClerk_1 ++ dktX4_readsClerk_2
def dkwX4_readsClerk_0 : List UInt8 := [42, 180, 0, 231, 60, 3, 61, 42, 180, 0, 53, 16, 28, 27, 96, 3, 79, 4, 62, 29, 153, 0, 78, 42]
abbrev dktX4_readsClerk_0 : List UInt8 := dkwX4_readsClerk_0 ++ dktX4_readsClerk_1
theorem dksX4_readsClerk_0 : cX4_readsClerk.data.toList.drop 0 = dktX4_readsClerk_0 := by decide +kernel
theorem dksX4_readsClerk_1 : cX4_readsClerk.data.toList.drop 24 = dktX4_readsClerk_1 := dk_seg dksX4_readsClerk_0 24 rfl rfl
theorem dksX4_readsClerk_2 : cX4_readsClerk.data.toList.drop 46 = dktX4_readsClerk_2 := dk_seg dksX4_readsClerk_1 22 rfl rfl
theorem dksX4_readsClerk_3 : cX4_readsClerk.data.toList.drop 69 = dktX4_readsClerk_3 := dk_seg dksX4_readsClerk_2 23 rfl rfl
theorem dksX4_readsClerk_4 : cX4_readsClerk.data.toList.drop 93 = dktX4_readsClerk_4 := dk_seg dksX4_readsClerk_3 24 rfl rfl
theorem dksX4_readsClerk_5 : cX4_readsClerk.data.toList.drop 117 = dktX4_readsClerk_5 := dk_seg dksX4_readsClerk_4 24 rfl rfl
theorem dX4_readsClerk_0 : decode cX4_readsClerk 0 = .ok (.aload_n 0, 1) := dk_42 (dk_at dksX4_readsClerk_0 0 rfl rfl)
theorem dX4_readsClerk_1 : decode cX4_readsClerk 1 = .ok (.getfield 231, 3) := dk_180 0 231 (dk_at dksX4_readsClerk_0 1 rfl rfl)
theorem dX4_readsClerk_4 : decode cX4_readsClerk 4 = .ok (.istore_n 1, 1) := dk_60 (dk_at dksX4_readsClerk_0 4 rfl rfl)
theorem dX4_readsClerk_5 : decode cX4_readsClerk 5 = .ok (.iconst 0, 1) := dk_3 (dk_at dksX4_readsClerk_0 5 rfl rfl)
theorem dX4_readsClerk_6 : decode cX4_readsClerk 6 = .ok (.istore_n 2, 1) := dk_61 (dk_at dksX4_readsClerk_0 6 rfl rfl)
theorem dX4_readsClerk_7 : decode cX4_readsClerk 7 = .ok (.aload_n 0, 1) := dk_42 (dk_at dksX4_readsClerk_0 7 rfl rfl)
theorem dX4_readsClerk_8 : decode cX4_readsClerk 8 = .ok (.getfield 53, 3) := dk_180 0 53 (dk_at dksX4_readsClerk_0 8 rfl rfl)
theorem dX4_readsClerk_11 : decode cX4_readsClerk 11 = .ok (.bipush 28, 2) := dk_16 28 (dk_at dksX4_readsClerk_0 11 rfl rfl)
theorem dX4_readsClerk_13 : decode cX4_readsClerk 13 = .ok (.iload_n 1, 1) := dk_27 (dk_at dksX4_readsClerk_0 13 rfl rfl)
theorem dX4_readsClerk_14 : decode cX4_readsClerk 14 = .ok (.iadd, 1) := dk_96 (dk_at dksX4_readsClerk_0 14 rfl rfl)
theorem dX4_readsClerk_15 : decode cX4_readsClerk 15 = .ok (.iconst 0, 1) := dk_3 (dk_at dksX4_readsClerk_0 15 rfl rfl)
theorem dX4_readsClerk_16 : decode cX4_readsClerk 16 = .ok (.iastore, 1) := dk_79 (dk_at dksX4_readsClerk_0 16 rfl rfl)
theorem dX4_readsClerk_17 : decode cX4_readsClerk 17 = .ok (.iconst 1, 1) := dk_4 (dk_at dksX4_readsClerk_0 17 rfl rfl)
theorem dX4_readsClerk_18 : decode cX4_readsClerk 18 = .ok (.istore_n 3, 1) := dk_62 (dk_at dksX4_readsClerk_0 18 rfl rfl)
theorem dX4_readsClerk_19 : decode cX4_readsClerk 19 = .ok (.iload_n 3, 1) := dk_29 (dk_at dksX4_readsClerk_0 19 rfl rfl)
theorem dX4_readsClerk_20 : decode cX4_readsClerk 20 = .ok (.ifCond .eq 78, 3) := dk_153 0 78 (dk_at dksX4_readsClerk_0 20 rfl rfl)
theorem dX4_readsClerk_23 : decode cX4_readsClerk 23 = .ok (.aload_n 0, 1) := dk_42 (dk_at dksX4_readsClerk_0 23 rfl rfl)
theorem dX4_readsClerk_24 : decode cX4_readsClerk 24 = .ok (.invokevirtual 161, 3) := dk_182 0 161 (dk_at dksX4_readsClerk_1 0 rfl rfl)
theorem dX4_readsClerk_27 : decode cX4_readsClerk 27 = .ok (.ifCond .eq 71, 3) := dk_153 0 71 (dk_at dksX4_readsClerk_1 3 rfl rfl)
theorem dX4_readsClerk_30 : decode cX4_readsClerk 30 = .ok (.iload_n 2, 1) := dk_28 (dk_at dksX4_readsClerk_1 6 rfl rfl)
theorem dX4_readsClerk_31 : decode cX4_readsClerk 31 = .ok (.bipush 6, 2) := dk_16 6 (dk_at dksX4_readsClerk_1 7 rfl rfl)
theorem dX4_readsClerk_33 : decode cX4_readsClerk 33 = .ok (.if_icmp .ne 16, 3) := dk_160 0 16 (dk_at dksX4_readsClerk_1 9 rfl rfl)
theorem dX4_readsClerk_36 : decode cX4_readsClerk 36 = .ok (.aload_n 0, 1) := dk_42 (dk_at dksX4_readsClerk_1 12 rfl rfl)
theorem dX4_readsClerk_37 : decode cX4_readsClerk 37 = .ok (.getfield 135, 3) := dk_180 0 135 (dk_at dksX4_readsClerk_1 13 rfl rfl)
theorem dX4_readsClerk_40 : decode cX4_readsClerk 40 = .ok (.iconst 2, 1) := dk_5 (dk_at dksX4_readsClerk_1 16 rfl rfl)
theorem dX4_readsClerk_41 : decode cX4_readsClerk 41 = .ok (.if_icmp .ne 8, 3) := dk_160 0 8 (dk_at dksX4_readsClerk_1 17 rfl rfl)
theorem dX4_readsClerk_44 : decode cX4_readsClerk 44 = .ok (.aload_n 0, 1) := dk_42 (dk_at dksX4_readsClerk_1 20 rfl rfl)
theorem dX4_readsClerk_45 : decode cX4_readsClerk 45 = .ok (.iconst 2, 1) := dk_5 (dk_at dksX4_readsClerk_1 21 rfl rfl)
theorem dX4_readsClerk_46 : decode cX4_readsClerk 46 = .ok (.invokevirtual 168, 3) := dk_182 0 168 (dk_at dksX4_readsClerk_2 0 rfl rfl)
theorem dX4_readsClerk_49 : decode cX4_readsClerk 49 = .ok (.aload_n 0, 1) := dk_42 (dk_at dksX4_readsClerk_2 3 rfl rfl)
theorem dX4_readsClerk_50 : decode cX4_readsClerk 50 = .ok (.iconst 0, 1) := dk_3 (dk_at dksX4_readsClerk_2 4 rfl rfl)
theorem dX4_readsClerk_51 : decode cX4_readsClerk 51 = .ok (.iconst 3, 1) := dk_6 (dk_at dksX4_readsClerk_2 5 rfl rfl)
theorem dX4_readsClerk_52 : decode cX4_readsClerk 52 = .ok (.invokevirtual 227, 3) := dk_182 0 227 (dk_at dksX4_readsClerk_2 6 rfl rfl)
theorem dX4_readsClerk_55 : decode cX4_readsClerk 55 = .ok (.istore 4, 2) := dk_54 4 (dk_at dksX4_readsClerk_2 9 rfl rfl)
theorem dX4_readsClerk_57 : decode cX4_readsClerk 57 = .ok (.aload_n 0, 1) := dk_42 (dk_at dksX4_readsClerk_2 11 rfl rfl)
theorem dX4_readsClerk_58 : decode cX4_readsClerk 58 = .ok (.invokevirtual 161, 3) := dk_182 0 161 (dk_at dksX4_readsClerk_2 12 rfl rfl)
theorem dX4_readsClerk_61 : decode cX4_readsClerk 61 = .ok (.ifCond .ne 4, 3) := dk_154 0 4 (dk_at dksX4_readsClerk_2 15 rfl rfl)
theorem dX4_readsClerk_64 : decode cX4_readsClerk 64 = .ok (.return_, 1) := dk_177 (dk_at dksX4_readsClerk_2 18 rfl rfl)
theorem dX4_readsClerk_65 : decode cX4_readsClerk 65 = .ok (.aload_n 0, 1) := dk_42 (dk_at dksX4_readsClerk_2 19 rfl rfl)
theorem dX4_readsClerk_66 : decode cX4_readsClerk 66 = .ok (.getfield 41, 3) := dk_180 0 41 (dk_at dksX4_readsClerk_2 20 rfl rfl)
theorem dX4_readsClerk_69 : decode cX4_readsClerk 69 = .ok (.bipush 6, 2) := dk_16 6 (dk_at dksX4_readsClerk_3 0 rfl rfl)
theorem dX4_readsClerk_71 : decode cX4_readsClerk 71 = .ok (.iload_n 1, 1) := dk_27 (dk_at dksX4_readsClerk_3 2 rfl rfl)
theorem dX4_readsClerk_72 : decode cX4_readsClerk 72 = .ok (.imul, 1) := dk_104 (dk_at dksX4_readsClerk_3 3 rfl rfl)
theorem dX4_readsClerk_73 : decode cX4_readsClerk 73 = .ok (.iload_n 2, 1) := dk_28 (dk_at dksX4_readsClerk_3 4 rfl rfl)
theorem dX4_readsClerk_74 : decode cX4_readsClerk 74 = .ok (.iadd, 1) := dk_96 (dk_at dksX4_readsClerk_3 5 rfl rfl)
theorem dX4_readsClerk_75 : decode cX4_readsClerk 75 = .ok (.iload 4, 2) := dk_21 4 (dk_at dksX4_readsClerk_3 6 rfl rfl)
theorem dX4_readsClerk_77 : decode cX4_readsClerk 77 = .ok (.iastore, 1) := dk_79 (dk_at dksX4_readsClerk_3 8 rfl rfl)
theorem dX4_readsClerk_78 : decode cX4_readsClerk 78 = .ok (.iinc 2 1, 3) := dk_132 2 1 (dk_at dksX4_readsClerk_3 9 rfl rfl)
theorem dX4_readsClerk_81 : decode cX4_readsClerk 81 = .ok (.aload_n 0, 1) := dk_42 (dk_at dksX4_readsClerk_3 12 rfl rfl)
theorem dX4_readsClerk_82 : decode cX4_readsClerk 82 = .ok (.getfield 135, 3) := dk_180 0 135 (dk_at dksX4_readsClerk_3 13 rfl rfl)
theorem dX4_readsClerk_85 : decode cX4_readsClerk 85 = .ok (.iconst 2, 1) := dk_5 (dk_at dksX4_readsClerk_3 16 rfl rfl)
theorem dX4_readsClerk_86 : decode cX4_readsClerk 86 = .ok (.if_icmp .ne 7, 3) := dk_160 0 7 (dk_at dksX4_readsClerk_3 17 rfl rfl)
theorem dX4_readsClerk_89 : decode cX4_readsClerk 89 = .ok (.iconst 1, 1) := dk_4 (dk_at dksX4_readsClerk_3 20 rfl rfl)
theorem dX4_readsClerk_90 : decode cX4_readsClerk 90 = .ok (.goto 4, 3) := dk_167 0 4 (dk_at dksX4_readsClerk_3 21 rfl rfl)
theorem dX4_readsClerk_93 : decode cX4_readsClerk 93 = .ok (.iconst 0, 1) := dk_3 (dk_at dksX4_readsClerk_4 0 rfl rfl)
theorem dX4_readsClerk_94 : decode cX4_readsClerk 94 = .ok (.istore_n 3, 1) := dk_62 (dk_at dksX4_readsClerk_4 1 rfl rfl)
theorem dX4_readsClerk_95 : decode cX4_readsClerk 95 = .ok (.goto (-76), 3) := dk_167 255 180 (dk_at dksX4_readsClerk_4 2 rfl rfl)
theorem dX4_readsClerk_98 : decode cX4_readsClerk 98 = .ok (.aload_n 0, 1) := dk_42 (dk_at dksX4_readsClerk_4 5 rfl rfl)
theorem dX4_readsClerk_99 : decode cX4_readsClerk 99 = .ok (.getfield 44, 3) := dk_180 0 44 (dk_at dksX4_readsClerk_4 6 rfl rfl)
theorem dX4_readsClerk_102 : decode cX4_readsClerk 102 = .ok (.iload_n 1, 1) := dk_27 (dk_at dksX4_readsClerk_4 9 rfl rfl)
theorem dX4_readsClerk_103 : decode cX4_readsClerk 103 = .ok (.iload_n 2, 1) := dk_28 (dk_at dksX4_readsClerk_4 10 rfl rfl)
theorem dX4_readsClerk_104 : decode cX4_readsClerk 104 = .ok (.iastore, 1) := dk_79 (dk_at dksX4_readsClerk_4 11 rfl rfl)
theorem dX4_readsClerk_105 : decode cX4_readsClerk 105 = .ok (.aload_n 0, 1) := dk_42 (dk_at dksX4_readsClerk_4 12 rfl rfl)
theorem dX4_readsClerk_106 : decode cX4_readsClerk 106 = .ok (.invokevirtual 161, 3) := dk_182 0 161 (dk_at dksX4_readsClerk_4 13 rfl rfl)
theorem dX4_readsClerk_109 : decode cX4_readsClerk 109 = .ok (.ifCond .eq 13, 3) := dk_153 0 13 (dk_at dksX4_readsClerk_4 16 rfl rfl)
theorem dX4_readsClerk_112 : decode cX4_readsClerk 112 = .ok (.aload_n 0, 1) := dk_42 (dk_at dksX4_readsClerk_4 19 rfl rfl)
theorem dX4_readsClerk_113 : decode cX4_readsClerk 113 = .ok (.dup, 1) := dk_89 (dk_at dksX4_readsClerk_4 20 rfl rfl)
theorem dX4_readsClerk_114 : decode cX4_readsClerk 114 = .ok (.getfield 231, 3) := dk_180 0 231 (dk_at dksX4_readsClerk_4 21 rfl rfl)
theorem dX4_readsClerk_117 : decode cX4_readsClerk 117 = .ok (.iconst 1, 1) := dk_4 (dk_at dksX4_readsClerk_5 0 rfl rfl)
theorem dX4_readsClerk_118 : decode cX4_readsClerk 118 = .ok (.iadd, 1) := dk_96 (dk_at dksX4_readsClerk_5 1 rfl rfl)
theorem dX4_readsClerk_119 : decode cX4_readsClerk 119 = .ok (.putfield 231, 3) := dk_181 0 231 (dk_at dksX4_readsClerk_5 2 rfl rfl)
theorem dX4_readsClerk_122 : decode cX4_readsClerk 122 = .ok (.return_, 1) := dk_177 (dk_at dksX4_readsClerk_5 5 rfl rfl)
abbrev cX4_readsWord : ByteArray := prog_12_method_38_code
def yX4_readsWord : MethodName := ⟨RX4, "readsWord", "()V"⟩
def dkwX4_readsWord_4 : List UInt8 := [96, 181, 0, 234, 42, 182, 0, 165, 177]
abbrev dktX4_readsWord_4 : List UInt8 := dkwX4_readsWord_4 ++ []
def dkwX4_readsWord_3 : List UInt8 := [180, 0, 234, 27, 79, 42, 180, 0, 50, 42, 180, 0, 234, 42, 180, 0, 129, 79, 42, 89, 180, 0, 234, 4]
abbrev dktX4_readsWord_3 : List UInt8 := dkwX4_readsWord_3 ++ dktX4_readsWord_4
def dkwX4_readsWord_2 : List UInt8 := [182, 0, 240, 153, 0, 8, 42, 7, 182, 0, 168, 42, 182, 0, 161, 154, 0, 4, 177, 42, 180, 0, 47, 42]
abbrev dktX4_readsWord_2 : List UInt8 := dkwX4_readsWord_2 ++ dktX4_readsWord_3
def dkwX4_readsWord_1 : List UInt8 := [180, 0, 224, 182, 0, 237, 154, 0, 4, 177, 42, 180, 0, 129, 27, 159, 0, 15, 42, 27, 42, 180, 0, 129]
abbrev dktX4_readsWord_1 : List UInt8 := dkwX4_readsWord_1 ++ dktX4_readsWord_2
def dkwX4_readsWord_0 : List UInt8 := [42, 42, 180, 0, 224, 182, 0, 237, 154, 0, 4, 177, 42, 180, 0, 129, 60, 42, 182, 0, 165, 42, 42]
abbrev dktX4_readsWord_0 : List UInt8 := dkwX4_readsWord_0 ++ dktX4_readsWord_1
theorem dksX4_readsWord_0 : cX4_readsWord.data.toList.drop 0 = dktX4_readsWord_0 := by decide +kernel
theorem dksX4_readsWord_1 : cX4_readsWord.data.toList.drop 23 = dktX4_readsWord_1 := dk_seg dksX4_readsWord_0 23 rfl rfl
theorem dksX4_readsWord_2 : cX4_readsWord.data.toList.drop 47 = dktX4_readsWord_2 := dk_seg dksX4_readsWord_1 24 rfl rfl
theorem dksX4_readsWord_3 : cX4_readsWord.data.toList.drop 71 = dktX4_readsWord_3 := dk_seg dksX4_readsWord_2 24 rfl rfl
theorem dksX4_readsWord_4 : cX4_readsWord.data.toList.drop 95 = dktX4_readsWord_4 := dk_seg dksX4_readsWord_3 24 rfl rfl
theorem dX4_readsWord_0 : decode cX4_readsWord 0 = .ok (.aload_n 0, 1) := dk_42 (dk_at dksX4_readsWord_0 0 rfl rfl)
theorem dX4_readsWord_1 : decode cX4_readsWord 1 = .ok (.aload_n 0, 1) := dk_42 (dk_at dksX4_readsWord_0 1 rfl rfl)
theorem dX4_readsWord_2 : decode cX4_readsWord 2 = .ok (.getfield 224, 3) := dk_180 0 224 (dk_at dksX4_readsWord_0 2 rfl rfl)
theorem dX4_readsWord_5 : decode cX4_readsWord 5 = .ok (.invokevirtual 237, 3) := dk_182 0 237 (dk_at dksX4_readsWord_0 5 rfl rfl)
theorem dX4_readsWord_8 : decode cX4_readsWord 8 = .ok (.ifCond .ne 4, 3) := dk_154 0 4 (dk_at dksX4_readsWord_0 8 rfl rfl)
theorem dX4_readsWord_11 : decode cX4_readsWord 11 = .ok (.return_, 1) := dk_177 (dk_at dksX4_readsWord_0 11 rfl rfl)
theorem dX4_readsWord_12 : decode cX4_readsWord 12 = .ok (.aload_n 0, 1) := dk_42 (dk_at dksX4_readsWord_0 12 rfl rfl)
theorem dX4_readsWord_13 : decode cX4_readsWord 13 = .ok (.getfield 129, 3) := dk_180 0 129 (dk_at dksX4_readsWord_0 13 rfl rfl)
theorem dX4_readsWord_16 : decode cX4_readsWord 16 = .ok (.istore_n 1, 1) := dk_60 (dk_at dksX4_readsWord_0 16 rfl rfl)
theorem dX4_readsWord_17 : decode cX4_readsWord 17 = .ok (.aload_n 0, 1) := dk_42 (dk_at dksX4_readsWord_0 17 rfl rfl)
theorem dX4_readsWord_18 : decode cX4_readsWord 18 = .ok (.invokevirtual 165, 3) := dk_182 0 165 (dk_at dksX4_readsWord_0 18 rfl rfl)
theorem dX4_readsWord_21 : decode cX4_readsWord 21 = .ok (.aload_n 0, 1) := dk_42 (dk_at dksX4_readsWord_0 21 rfl rfl)
theorem dX4_readsWord_22 : decode cX4_readsWord 22 = .ok (.aload_n 0, 1) := dk_42 (dk_at dksX4_readsWord_0 22 rfl rfl)
theorem dX4_readsWord_23 : decode cX4_readsWord 23 = .ok (.getfield 224, 3) := dk_180 0 224 (dk_at dksX4_readsWord_1 0 rfl rfl)
theorem dX4_readsWord_26 : decode cX4_readsWord 26 = .ok (.invokevirtual 237, 3) := dk_182 0 237 (dk_at dksX4_readsWord_1 3 rfl rfl)
theorem dX4_readsWord_29 : decode cX4_readsWord 29 = .ok (.ifCond .ne 4, 3) := dk_154 0 4 (dk_at dksX4_readsWord_1 6 rfl rfl)
theorem dX4_readsWord_32 : decode cX4_readsWord 32 = .ok (.return_, 1) := dk_177 (dk_at dksX4_readsWord_1 9 rfl rfl)
theorem dX4_readsWord_33 : decode cX4_readsWord 33 = .ok (.aload_n 0, 1) := dk_42 (dk_at dksX4_readsWord_1 10 rfl rfl)
theorem dX4_readsWord_34 : decode cX4_readsWord 34 = .ok (.getfield 129, 3) := dk_180 0 129 (dk_at dksX4_readsWord_1 11 rfl rfl)
theorem dX4_readsWord_37 : decode cX4_readsWord 37 = .ok (.iload_n 1, 1) := dk_27 (dk_at dksX4_readsWord_1 14 rfl rfl)
theorem dX4_readsWord_38 : decode cX4_readsWord 38 = .ok (.if_icmp .eq 15, 3) := dk_159 0 15 (dk_at dksX4_readsWord_1 15 rfl rfl)
theorem dX4_readsWord_41 : decode cX4_readsWord 41 = .ok (.aload_n 0, 1) := dk_42 (dk_at dksX4_readsWord_1 18 rfl rfl)
theorem dX4_readsWord_42 : decode cX4_readsWord 42 = .ok (.iload_n 1, 1) := dk_27 (dk_at dksX4_readsWord_1 19 rfl rfl)
theorem dX4_readsWord_43 : decode cX4_readsWord 43 = .ok (.aload_n 0, 1) := dk_42 (dk_at dksX4_readsWord_1 20 rfl rfl)
theorem dX4_readsWord_44 : decode cX4_readsWord 44 = .ok (.getfield 129, 3) := dk_180 0 129 (dk_at dksX4_readsWord_1 21 rfl rfl)
theorem dX4_readsWord_47 : decode cX4_readsWord 47 = .ok (.invokevirtual 240, 3) := dk_182 0 240 (dk_at dksX4_readsWord_2 0 rfl rfl)
theorem dX4_readsWord_50 : decode cX4_readsWord 50 = .ok (.ifCond .eq 8, 3) := dk_153 0 8 (dk_at dksX4_readsWord_2 3 rfl rfl)
theorem dX4_readsWord_53 : decode cX4_readsWord 53 = .ok (.aload_n 0, 1) := dk_42 (dk_at dksX4_readsWord_2 6 rfl rfl)
theorem dX4_readsWord_54 : decode cX4_readsWord 54 = .ok (.iconst 4, 1) := dk_7 (dk_at dksX4_readsWord_2 7 rfl rfl)
theorem dX4_readsWord_55 : decode cX4_readsWord 55 = .ok (.invokevirtual 168, 3) := dk_182 0 168 (dk_at dksX4_readsWord_2 8 rfl rfl)
theorem dX4_readsWord_58 : decode cX4_readsWord 58 = .ok (.aload_n 0, 1) := dk_42 (dk_at dksX4_readsWord_2 11 rfl rfl)
theorem dX4_readsWord_59 : decode cX4_readsWord 59 = .ok (.invokevirtual 161, 3) := dk_182 0 161 (dk_at dksX4_readsWord_2 12 rfl rfl)
theorem dX4_readsWord_62 : decode cX4_readsWord 62 = .ok (.ifCond .ne 4, 3) := dk_154 0 4 (dk_at dksX4_readsWord_2 15 rfl rfl)
theorem dX4_readsWord_65 : decode cX4_readsWord 65 = .ok (.return_, 1) := dk_177 (dk_at dksX4_readsWord_2 18 rfl rfl)
theorem dX4_readsWord_66 : decode cX4_readsWord 66 = .ok (.aload_n 0, 1) := dk_42 (dk_at dksX4_readsWord_2 19 rfl rfl)
theorem dX4_readsWord_67 : decode cX4_readsWord 67 = .ok (.getfield 47, 3) := dk_180 0 47 (dk_at dksX4_readsWord_2 20 rfl rfl)
theorem dX4_readsWord_70 : decode cX4_readsWord 70 = .ok (.aload_n 0, 1) := dk_42 (dk_at dksX4_readsWord_2 23 rfl rfl)
theorem dX4_readsWord_71 : decode cX4_readsWord 71 = .ok (.getfield 234, 3) := dk_180 0 234 (dk_at dksX4_readsWord_3 0 rfl rfl)
theorem dX4_readsWord_74 : decode cX4_readsWord 74 = .ok (.iload_n 1, 1) := dk_27 (dk_at dksX4_readsWord_3 3 rfl rfl)
theorem dX4_readsWord_75 : decode cX4_readsWord 75 = .ok (.iastore, 1) := dk_79 (dk_at dksX4_readsWord_3 4 rfl rfl)
theorem dX4_readsWord_76 : decode cX4_readsWord 76 = .ok (.aload_n 0, 1) := dk_42 (dk_at dksX4_readsWord_3 5 rfl rfl)
theorem dX4_readsWord_77 : decode cX4_readsWord 77 = .ok (.getfield 50, 3) := dk_180 0 50 (dk_at dksX4_readsWord_3 6 rfl rfl)
theorem dX4_readsWord_80 : decode cX4_readsWord 80 = .ok (.aload_n 0, 1) := dk_42 (dk_at dksX4_readsWord_3 9 rfl rfl)
theorem dX4_readsWord_81 : decode cX4_readsWord 81 = .ok (.getfield 234, 3) := dk_180 0 234 (dk_at dksX4_readsWord_3 10 rfl rfl)
theorem dX4_readsWord_84 : decode cX4_readsWord 84 = .ok (.aload_n 0, 1) := dk_42 (dk_at dksX4_readsWord_3 13 rfl rfl)
theorem dX4_readsWord_85 : decode cX4_readsWord 85 = .ok (.getfield 129, 3) := dk_180 0 129 (dk_at dksX4_readsWord_3 14 rfl rfl)
theorem dX4_readsWord_88 : decode cX4_readsWord 88 = .ok (.iastore, 1) := dk_79 (dk_at dksX4_readsWord_3 17 rfl rfl)
theorem dX4_readsWord_89 : decode cX4_readsWord 89 = .ok (.aload_n 0, 1) := dk_42 (dk_at dksX4_readsWord_3 18 rfl rfl)
theorem dX4_readsWord_90 : decode cX4_readsWord 90 = .ok (.dup, 1) := dk_89 (dk_at dksX4_readsWord_3 19 rfl rfl)
theorem dX4_readsWord_91 : decode cX4_readsWord 91 = .ok (.getfield 234, 3) := dk_180 0 234 (dk_at dksX4_readsWord_3 20 rfl rfl)
theorem dX4_readsWord_94 : decode cX4_readsWord 94 = .ok (.iconst 1, 1) := dk_4 (dk_at dksX4_readsWord_3 23 rfl rfl)
theorem dX4_readsWord_95 : decode cX4_readsWord 95 = .ok (.iadd, 1) := dk_96 (dk_at dksX4_readsWord_4 0 rfl rfl)
theorem dX4_readsWord_96 : decode cX4_readsWord 96 = .ok (.putfield 234, 3) := dk_181 0 234 (dk_at dksX4_readsWord_4 1 rfl rfl)
theorem dX4_readsWord_99 : decode cX4_readsWord 99 = .ok (.aload_n 0, 1) := dk_42 (dk_at dksX4_readsWord_4 4 rfl rfl)
theorem dX4_readsWord_100 : decode cX4_readsWord 100 = .ok (.invokevirtual 165, 3) := dk_182 0 165 (dk_at dksX4_readsWord_4 5 rfl rfl)
theorem dX4_readsWord_103 : decode cX4_readsWord 103 = .ok (.return_, 1) := dk_177 (dk_at dksX4_readsWord_4 8 rfl rfl)
abbrev cX4_amongHere : ByteArray := prog_12_method_22_code
def yX4_amongHere : MethodName := ⟨RX4, "amongHere", "(I)Z"⟩
def dkwX4_amongHere_2 : List UInt8 := [161, 0, 8, 42, 6, 182, 0, 168, 42, 182, 0, 161, 172]
abbrev dktX4_amongHere_2 : List UInt8 := dkwX4_amongHere_2 ++ []
def dkwX4_amongHere_1 : List UInt8 := [167, 0, 32, 42, 180, 0, 145, 7, 164, 0, 11, 42, 5, 182, 0, 168, 167, 0, 16, 42, 180, 0, 129, 27]
abbrev dktX4_amongHere_1 : List UInt8 := dkwX4_amongHere_1 ++ dktX4_amongHere_2
def dkwX4_amongHere_0 : List UInt8 := [42, 182, 0, 161, 154, 0, 5, 3, 172, 42, 180, 0, 135, 5, 159, 0, 11, 42, 4, 182, 0, 168]
abbrev dktX4_amongHere_0 : List UInt8 := dkwX4_amongHere_0 ++ dktX4_amongHere_1
theorem dksX4_amongHere_0 : cX4_amongHere.data.toList.drop 0 = dktX4_amongHere_0 := by decide +kernel
theorem dksX4_amongHere_1 : cX4_amongHere.data.toList.drop 22 = dktX4_amongHere_1 := dk_seg dksX4_amongHere_0 22 rfl rfl
theorem dksX4_amongHere_2 : cX4_amongHere.data.toList.drop 46 = dktX4_amongHere_2 := dk_seg dksX4_amongHere_1 24 rfl rfl
theorem dX4_amongHere_0 : decode cX4_amongHere 0 = .ok (.aload_n 0, 1) := dk_42 (dk_at dksX4_amongHere_0 0 rfl rfl)
theorem dX4_amongHere_1 : decode cX4_amongHere 1 = .ok (.invokevirtual 161, 3) := dk_182 0 161 (dk_at dksX4_amongHere_0 1 rfl rfl)
theorem dX4_amongHere_4 : decode cX4_amongHere 4 = .ok (.ifCond .ne 5, 3) := dk_154 0 5 (dk_at dksX4_amongHere_0 4 rfl rfl)
theorem dX4_amongHere_7 : decode cX4_amongHere 7 = .ok (.iconst 0, 1) := dk_3 (dk_at dksX4_amongHere_0 7 rfl rfl)
theorem dX4_amongHere_8 : decode cX4_amongHere 8 = .ok (.ireturn, 1) := dk_172 (dk_at dksX4_amongHere_0 8 rfl rfl)
theorem dX4_amongHere_9 : decode cX4_amongHere 9 = .ok (.aload_n 0, 1) := dk_42 (dk_at dksX4_amongHere_0 9 rfl rfl)
theorem dX4_amongHere_10 : decode cX4_amongHere 10 = .ok (.getfield 135, 3) := dk_180 0 135 (dk_at dksX4_amongHere_0 10 rfl rfl)
theorem dX4_amongHere_13 : decode cX4_amongHere 13 = .ok (.iconst 2, 1) := dk_5 (dk_at dksX4_amongHere_0 13 rfl rfl)
theorem dX4_amongHere_14 : decode cX4_amongHere 14 = .ok (.if_icmp .eq 11, 3) := dk_159 0 11 (dk_at dksX4_amongHere_0 14 rfl rfl)
theorem dX4_amongHere_17 : decode cX4_amongHere 17 = .ok (.aload_n 0, 1) := dk_42 (dk_at dksX4_amongHere_0 17 rfl rfl)
theorem dX4_amongHere_18 : decode cX4_amongHere 18 = .ok (.iconst 1, 1) := dk_4 (dk_at dksX4_amongHere_0 18 rfl rfl)
theorem dX4_amongHere_19 : decode cX4_amongHere 19 = .ok (.invokevirtual 168, 3) := dk_182 0 168 (dk_at dksX4_amongHere_0 19 rfl rfl)
theorem dX4_amongHere_22 : decode cX4_amongHere 22 = .ok (.goto 32, 3) := dk_167 0 32 (dk_at dksX4_amongHere_1 0 rfl rfl)
theorem dX4_amongHere_25 : decode cX4_amongHere 25 = .ok (.aload_n 0, 1) := dk_42 (dk_at dksX4_amongHere_1 3 rfl rfl)
theorem dX4_amongHere_26 : decode cX4_amongHere 26 = .ok (.getfield 145, 3) := dk_180 0 145 (dk_at dksX4_amongHere_1 4 rfl rfl)
theorem dX4_amongHere_29 : decode cX4_amongHere 29 = .ok (.iconst 4, 1) := dk_7 (dk_at dksX4_amongHere_1 7 rfl rfl)
theorem dX4_amongHere_30 : decode cX4_amongHere 30 = .ok (.if_icmp .le 11, 3) := dk_164 0 11 (dk_at dksX4_amongHere_1 8 rfl rfl)
theorem dX4_amongHere_33 : decode cX4_amongHere 33 = .ok (.aload_n 0, 1) := dk_42 (dk_at dksX4_amongHere_1 11 rfl rfl)
theorem dX4_amongHere_34 : decode cX4_amongHere 34 = .ok (.iconst 2, 1) := dk_5 (dk_at dksX4_amongHere_1 12 rfl rfl)
theorem dX4_amongHere_35 : decode cX4_amongHere 35 = .ok (.invokevirtual 168, 3) := dk_182 0 168 (dk_at dksX4_amongHere_1 13 rfl rfl)
theorem dX4_amongHere_38 : decode cX4_amongHere 38 = .ok (.goto 16, 3) := dk_167 0 16 (dk_at dksX4_amongHere_1 16 rfl rfl)
theorem dX4_amongHere_41 : decode cX4_amongHere 41 = .ok (.aload_n 0, 1) := dk_42 (dk_at dksX4_amongHere_1 19 rfl rfl)
theorem dX4_amongHere_42 : decode cX4_amongHere 42 = .ok (.getfield 129, 3) := dk_180 0 129 (dk_at dksX4_amongHere_1 20 rfl rfl)
theorem dX4_amongHere_45 : decode cX4_amongHere 45 = .ok (.iload_n 1, 1) := dk_27 (dk_at dksX4_amongHere_1 23 rfl rfl)
theorem dX4_amongHere_46 : decode cX4_amongHere 46 = .ok (.if_icmp .lt 8, 3) := dk_161 0 8 (dk_at dksX4_amongHere_2 0 rfl rfl)
theorem dX4_amongHere_49 : decode cX4_amongHere 49 = .ok (.aload_n 0, 1) := dk_42 (dk_at dksX4_amongHere_2 3 rfl rfl)
theorem dX4_amongHere_50 : decode cX4_amongHere 50 = .ok (.iconst 3, 1) := dk_6 (dk_at dksX4_amongHere_2 4 rfl rfl)
theorem dX4_amongHere_51 : decode cX4_amongHere 51 = .ok (.invokevirtual 168, 3) := dk_182 0 168 (dk_at dksX4_amongHere_2 5 rfl rfl)
theorem dX4_amongHere_54 : decode cX4_amongHere 54 = .ok (.aload_n 0, 1) := dk_42 (dk_at dksX4_amongHere_2 8 rfl rfl)
theorem dX4_amongHere_55 : decode cX4_amongHere 55 = .ok (.invokevirtual 161, 3) := dk_182 0 161 (dk_at dksX4_amongHere_2 9 rfl rfl)
theorem dX4_amongHere_58 : decode cX4_amongHere 58 = .ok (.ireturn, 1) := dk_172 (dk_at dksX4_amongHere_2 12 rfl rfl)
abbrev cX4_isWordOf : ByteArray := prog_12_method_37_code
def yX4_isWordOf : MethodName := ⟨RX4, "isWordOf", "(II)Z"⟩
def dkwX4_isWordOf_1 : List UInt8 := [29, 46, 28, 160, 0, 5, 4, 172, 132, 3, 1, 167, 255, 223, 3, 172]
abbrev dktX4_isWordOf_1 : List UInt8 := dkwX4_isWordOf_1 ++ []
def dkwX4_isWordOf_0 : List UInt8 := [3, 62, 29, 42, 180, 0, 234, 162, 0, 31, 42, 180, 0, 47, 29, 46, 27, 160, 0, 15, 42, 180, 0, 50]
abbrev dktX4_isWordOf_0 : List UInt8 := dkwX4_isWordOf_0 ++ dktX4_isWordOf_1
theorem dksX4_isWordOf_0 : cX4_isWordOf.data.toList.drop 0 = dktX4_isWordOf_0 := by decide +kernel
theorem dksX4_isWordOf_1 : cX4_isWordOf.data.toList.drop 24 = dktX4_isWordOf_1 := dk_seg dksX4_isWordOf_0 24 rfl rfl
theorem dX4_isWordOf_0 : decode cX4_isWordOf 0 = .ok (.iconst 0, 1) := dk_3 (dk_at dksX4_isWordOf_0 0 rfl rfl)
theorem dX4_isWordOf_1 : decode cX4_isWordOf 1 = .ok (.istore_n 3, 1) := dk_62 (dk_at dksX4_isWordOf_0 1 rfl rfl)
theorem dX4_isWordOf_2 : decode cX4_isWordOf 2 = .ok (.iload_n 3, 1) := dk_29 (dk_at dksX4_isWordOf_0 2 rfl rfl)
theorem dX4_isWordOf_3 : decode cX4_isWordOf 3 = .ok (.aload_n 0, 1) := dk_42 (dk_at dksX4_isWordOf_0 3 rfl rfl)
theorem dX4_isWordOf_4 : decode cX4_isWordOf 4 = .ok (.getfield 234, 3) := dk_180 0 234 (dk_at dksX4_isWordOf_0 4 rfl rfl)
theorem dX4_isWordOf_7 : decode cX4_isWordOf 7 = .ok (.if_icmp .ge 31, 3) := dk_162 0 31 (dk_at dksX4_isWordOf_0 7 rfl rfl)
theorem dX4_isWordOf_10 : decode cX4_isWordOf 10 = .ok (.aload_n 0, 1) := dk_42 (dk_at dksX4_isWordOf_0 10 rfl rfl)
theorem dX4_isWordOf_11 : decode cX4_isWordOf 11 = .ok (.getfield 47, 3) := dk_180 0 47 (dk_at dksX4_isWordOf_0 11 rfl rfl)
theorem dX4_isWordOf_14 : decode cX4_isWordOf 14 = .ok (.iload_n 3, 1) := dk_29 (dk_at dksX4_isWordOf_0 14 rfl rfl)
theorem dX4_isWordOf_15 : decode cX4_isWordOf 15 = .ok (.iaload, 1) := dk_46 (dk_at dksX4_isWordOf_0 15 rfl rfl)
theorem dX4_isWordOf_16 : decode cX4_isWordOf 16 = .ok (.iload_n 1, 1) := dk_27 (dk_at dksX4_isWordOf_0 16 rfl rfl)
theorem dX4_isWordOf_17 : decode cX4_isWordOf 17 = .ok (.if_icmp .ne 15, 3) := dk_160 0 15 (dk_at dksX4_isWordOf_0 17 rfl rfl)
theorem dX4_isWordOf_20 : decode cX4_isWordOf 20 = .ok (.aload_n 0, 1) := dk_42 (dk_at dksX4_isWordOf_0 20 rfl rfl)
theorem dX4_isWordOf_21 : decode cX4_isWordOf 21 = .ok (.getfield 50, 3) := dk_180 0 50 (dk_at dksX4_isWordOf_0 21 rfl rfl)
theorem dX4_isWordOf_24 : decode cX4_isWordOf 24 = .ok (.iload_n 3, 1) := dk_29 (dk_at dksX4_isWordOf_1 0 rfl rfl)
theorem dX4_isWordOf_25 : decode cX4_isWordOf 25 = .ok (.iaload, 1) := dk_46 (dk_at dksX4_isWordOf_1 1 rfl rfl)
theorem dX4_isWordOf_26 : decode cX4_isWordOf 26 = .ok (.iload_n 2, 1) := dk_28 (dk_at dksX4_isWordOf_1 2 rfl rfl)
theorem dX4_isWordOf_27 : decode cX4_isWordOf 27 = .ok (.if_icmp .ne 5, 3) := dk_160 0 5 (dk_at dksX4_isWordOf_1 3 rfl rfl)
theorem dX4_isWordOf_30 : decode cX4_isWordOf 30 = .ok (.iconst 1, 1) := dk_4 (dk_at dksX4_isWordOf_1 6 rfl rfl)
theorem dX4_isWordOf_31 : decode cX4_isWordOf 31 = .ok (.ireturn, 1) := dk_172 (dk_at dksX4_isWordOf_1 7 rfl rfl)
theorem dX4_isWordOf_32 : decode cX4_isWordOf 32 = .ok (.iinc 3 1, 3) := dk_132 3 1 (dk_at dksX4_isWordOf_1 8 rfl rfl)
theorem dX4_isWordOf_35 : decode cX4_isWordOf 35 = .ok (.goto (-33), 3) := dk_167 255 223 (dk_at dksX4_isWordOf_1 11 rfl rfl)
theorem dX4_isWordOf_38 : decode cX4_isWordOf 38 = .ok (.iconst 0, 1) := dk_3 (dk_at dksX4_isWordOf_1 14 rfl rfl)
theorem dX4_isWordOf_39 : decode cX4_isWordOf 39 = .ok (.ireturn, 1) := dk_172 (dk_at dksX4_isWordOf_1 15 rfl rfl)
abbrev cX4_expression : ByteArray := prog_12_method_33_code
def yX4_expression : MethodName := ⟨RX4, "expression", "(II)V"⟩
def dkwX4_expression_15 : List UInt8 := [164, 0, 8, 42, 4, 182, 0, 168, 42, 3, 182, 0, 211, 42, 3, 182, 0, 183, 177]
abbrev dktX4_expression_15 : List UInt8 := dkwX4_expression_15 ++ []
def dkwX4_expression_14 : List UInt8 := [182, 0, 221, 167, 0, 5, 3, 62, 167, 254, 214, 42, 182, 0, 161, 153, 0, 16, 42, 180, 0, 196, 4]
abbrev dktX4_expression_14 : List UInt8 := dkwX4_expression_14 ++ dktX4_expression_15
def dkwX4_expression_13 : List UInt8 := [182, 0, 214, 167, 0, 28, 42, 16, 41, 182, 0, 199, 153, 0, 17, 42, 182, 0, 218, 153, 0, 10, 42]
abbrev dktX4_expression_13 : List UInt8 := dkwX4_expression_13 ++ dktX4_expression_14
def dkwX4_expression_12 : List UInt8 := [16, 42, 182, 0, 199, 153, 0, 8, 16, 10, 167, 0, 5, 16, 11, 182, 0, 202, 42, 182, 0, 165, 42, 3]
abbrev dktX4_expression_12 : List UInt8 := dkwX4_expression_12 ++ dktX4_expression_13
def dkwX4_expression_11 : List UInt8 := [182, 0, 199, 154, 0, 12, 42, 16, 47, 182, 0, 199, 153, 0, 41, 42, 16, 6, 182, 0, 211, 42, 42]
abbrev dktX4_expression_11 : List UInt8 := dkwX4_expression_11 ++ dktX4_expression_12
def dkwX4_expression_10 : List UInt8 := [167, 0, 5, 16, 9, 182, 0, 202, 42, 182, 0, 165, 42, 3, 182, 0, 214, 167, 0, 84, 42, 16, 42]
abbrev dktX4_expression_10 : List UInt8 := dkwX4_expression_10 ++ dktX4_expression_11
def dkwX4_expression_9 : List UInt8 := [182, 0, 199, 153, 0, 40, 42, 8, 182, 0, 211, 42, 42, 16, 43, 182, 0, 199, 153, 0, 8, 16, 8]
abbrev dktX4_expression_9 : List UInt8 := dkwX4_expression_9 ++ dktX4_expression_10
def dkwX4_expression_8 : List UInt8 := [182, 0, 165, 42, 3, 182, 0, 214, 167, 0, 139, 42, 16, 43, 182, 0, 199, 154, 0, 12, 42, 16, 45]
abbrev dktX4_expression_8 : List UInt8 := dkwX4_expression_8 ++ dktX4_expression_9
def dkwX4_expression_7 : List UInt8 := [153, 0, 8, 16, 6, 167, 0, 5, 16, 7, 182, 0, 202, 42, 180, 0, 62, 42, 180, 0, 196, 4, 84, 42]
abbrev dktX4_expression_7 : List UInt8 := dkwX4_expression_7 ++ dktX4_expression_8
def dkwX4_expression_6 : List UInt8 := [42, 180, 0, 62, 42, 180, 0, 196, 51, 154, 0, 50, 42, 7, 182, 0, 211, 42, 42, 16, 60, 182, 0, 199]
abbrev dktX4_expression_6 : List UInt8 := dkwX4_expression_6 ++ dktX4_expression_7
def dkwX4_expression_5 : List UInt8 := [182, 0, 214, 167, 0, 216, 42, 16, 60, 182, 0, 199, 154, 0, 12, 42, 16, 61, 182, 0, 199, 153, 0, 62]
abbrev dktX4_expression_5 : List UInt8 := dkwX4_expression_5 ++ dktX4_expression_6
def dkwX4_expression_4 : List UInt8 := [167, 0, 4, 8, 182, 0, 202, 42, 180, 0, 62, 42, 180, 0, 196, 3, 84, 42, 182, 0, 165, 42, 4]
abbrev dktX4_expression_4 : List UInt8 := dkwX4_expression_4 ++ dktX4_expression_5
def dkwX4_expression_3 : List UInt8 := [21, 4, 16, 14, 160, 0, 7, 5, 167, 0, 4, 4, 182, 0, 211, 42, 21, 4, 16, 14, 160, 0, 7, 7]
abbrev dktX4_expression_3 : List UInt8 := dkwX4_expression_3 ++ dktX4_expression_4
def dkwX4_expression_2 : List UInt8 := [153, 1, 37, 42, 182, 0, 186, 54, 4, 21, 4, 16, 14, 159, 0, 10, 21, 4, 16, 15, 160, 0, 57, 42]
abbrev dktX4_expression_2 : List UInt8 := dkwX4_expression_2 ++ dktX4_expression_3
def dkwX4_expression_1 : List UInt8 := [3, 181, 0, 196, 42, 182, 0, 205, 42, 4, 182, 0, 214, 4, 62, 29, 153, 1, 44, 42, 182, 0, 161]
abbrev dktX4_expression_1 : List UInt8 := dkwX4_expression_1 ++ dktX4_expression_2
def dkwX4_expression_0 : List UInt8 := [42, 182, 0, 161, 154, 0, 4, 177, 42, 27, 181, 0, 190, 42, 28, 181, 0, 193, 42, 3, 181, 0, 174, 42]
abbrev dktX4_expression_0 : List UInt8 := dkwX4_expression_0 ++ dktX4_expression_1
theorem dksX4_expression_0 : cX4_expression.data.toList.drop 0 = dktX4_expression_0 := by decide +kernel
theorem dksX4_expression_1 : cX4_expression.data.toList.drop 24 = dktX4_expression_1 := dk_seg dksX4_expression_0 24 rfl rfl
theorem dksX4_expression_2 : cX4_expression.data.toList.drop 47 = dktX4_expression_2 := dk_seg dksX4_expression_1 23 rfl rfl
theorem dksX4_expression_3 : cX4_expression.data.toList.drop 71 = dktX4_expression_3 := dk_seg dksX4_expression_2 24 rfl rfl
theorem dksX4_expression_4 : cX4_expression.data.toList.drop 95 = dktX4_expression_4 := dk_seg dksX4_expression_3 24 rfl rfl
theorem dksX4_expression_5 : cX4_expression.data.toList.drop 118 = dktX4_expression_5 := dk_seg dksX4_expression_4 23 rfl rfl
theorem dksX4_expression_6 : cX4_expression.data.toList.drop 142 = dktX4_expression_6 := dk_seg dksX4_expression_5 24 rfl rfl
theorem dksX4_expression_7 : cX4_expression.data.toList.drop 166 = dktX4_expression_7 := dk_seg dksX4_expression_6 24 rfl rfl
theorem dksX4_expression_8 : cX4_expression.data.toList.drop 190 = dktX4_expression_8 := dk_seg dksX4_expression_7 24 rfl rfl
theorem dksX4_expression_9 : cX4_expression.data.toList.drop 213 = dktX4_expression_9 := dk_seg dksX4_expression_8 23 rfl rfl
theorem dksX4_expression_10 : cX4_expression.data.toList.drop 236 = dktX4_expression_10 := dk_seg dksX4_expression_9 23 rfl rfl
theorem dksX4_expression_11 : cX4_expression.data.toList.drop 259 = dktX4_expression_11 := dk_seg dksX4_expression_10 23 rfl rfl
theorem dksX4_expression_12 : cX4_expression.data.toList.drop 282 = dktX4_expression_12 := dk_seg dksX4_expression_11 23 rfl rfl
theorem dksX4_expression_13 : cX4_expression.data.toList.drop 306 = dktX4_expression_13 := dk_seg dksX4_expression_12 24 rfl rfl
theorem dksX4_expression_14 : cX4_expression.data.toList.drop 329 = dktX4_expression_14 := dk_seg dksX4_expression_13 23 rfl rfl
theorem dksX4_expression_15 : cX4_expression.data.toList.drop 352 = dktX4_expression_15 := dk_seg dksX4_expression_14 23 rfl rfl
theorem dX4_expression_0 : decode cX4_expression 0 = .ok (.aload_n 0, 1) := dk_42 (dk_at dksX4_expression_0 0 rfl rfl)
theorem dX4_expression_1 : decode cX4_expression 1 = .ok (.invokevirtual 161, 3) := dk_182 0 161 (dk_at dksX4_expression_0 1 rfl rfl)
theorem dX4_expression_4 : decode cX4_expression 4 = .ok (.ifCond .ne 4, 3) := dk_154 0 4 (dk_at dksX4_expression_0 4 rfl rfl)
theorem dX4_expression_7 : decode cX4_expression 7 = .ok (.return_, 1) := dk_177 (dk_at dksX4_expression_0 7 rfl rfl)
theorem dX4_expression_8 : decode cX4_expression 8 = .ok (.aload_n 0, 1) := dk_42 (dk_at dksX4_expression_0 8 rfl rfl)
theorem dX4_expression_9 : decode cX4_expression 9 = .ok (.iload_n 1, 1) := dk_27 (dk_at dksX4_expression_0 9 rfl rfl)
theorem dX4_expression_10 : decode cX4_expression 10 = .ok (.putfield 190, 3) := dk_181 0 190 (dk_at dksX4_expression_0 10 rfl rfl)
theorem dX4_expression_13 : decode cX4_expression 13 = .ok (.aload_n 0, 1) := dk_42 (dk_at dksX4_expression_0 13 rfl rfl)
theorem dX4_expression_14 : decode cX4_expression 14 = .ok (.iload_n 2, 1) := dk_28 (dk_at dksX4_expression_0 14 rfl rfl)
theorem dX4_expression_15 : decode cX4_expression 15 = .ok (.putfield 193, 3) := dk_181 0 193 (dk_at dksX4_expression_0 15 rfl rfl)
theorem dX4_expression_18 : decode cX4_expression 18 = .ok (.aload_n 0, 1) := dk_42 (dk_at dksX4_expression_0 18 rfl rfl)
theorem dX4_expression_19 : decode cX4_expression 19 = .ok (.iconst 0, 1) := dk_3 (dk_at dksX4_expression_0 19 rfl rfl)
theorem dX4_expression_20 : decode cX4_expression 20 = .ok (.putfield 174, 3) := dk_181 0 174 (dk_at dksX4_expression_0 20 rfl rfl)
theorem dX4_expression_23 : decode cX4_expression 23 = .ok (.aload_n 0, 1) := dk_42 (dk_at dksX4_expression_0 23 rfl rfl)
theorem dX4_expression_24 : decode cX4_expression 24 = .ok (.iconst 0, 1) := dk_3 (dk_at dksX4_expression_1 0 rfl rfl)
theorem dX4_expression_25 : decode cX4_expression 25 = .ok (.putfield 196, 3) := dk_181 0 196 (dk_at dksX4_expression_1 1 rfl rfl)
theorem dX4_expression_28 : decode cX4_expression 28 = .ok (.aload_n 0, 1) := dk_42 (dk_at dksX4_expression_1 4 rfl rfl)
theorem dX4_expression_29 : decode cX4_expression 29 = .ok (.invokevirtual 205, 3) := dk_182 0 205 (dk_at dksX4_expression_1 5 rfl rfl)
theorem dX4_expression_32 : decode cX4_expression 32 = .ok (.aload_n 0, 1) := dk_42 (dk_at dksX4_expression_1 8 rfl rfl)
theorem dX4_expression_33 : decode cX4_expression 33 = .ok (.iconst 1, 1) := dk_4 (dk_at dksX4_expression_1 9 rfl rfl)
theorem dX4_expression_34 : decode cX4_expression 34 = .ok (.invokevirtual 214, 3) := dk_182 0 214 (dk_at dksX4_expression_1 10 rfl rfl)
theorem dX4_expression_37 : decode cX4_expression 37 = .ok (.iconst 1, 1) := dk_4 (dk_at dksX4_expression_1 13 rfl rfl)
theorem dX4_expression_38 : decode cX4_expression 38 = .ok (.istore_n 3, 1) := dk_62 (dk_at dksX4_expression_1 14 rfl rfl)
theorem dX4_expression_39 : decode cX4_expression 39 = .ok (.iload_n 3, 1) := dk_29 (dk_at dksX4_expression_1 15 rfl rfl)
theorem dX4_expression_40 : decode cX4_expression 40 = .ok (.ifCond .eq 300, 3) := dk_153 1 44 (dk_at dksX4_expression_1 16 rfl rfl)
theorem dX4_expression_43 : decode cX4_expression 43 = .ok (.aload_n 0, 1) := dk_42 (dk_at dksX4_expression_1 19 rfl rfl)
theorem dX4_expression_44 : decode cX4_expression 44 = .ok (.invokevirtual 161, 3) := dk_182 0 161 (dk_at dksX4_expression_1 20 rfl rfl)
theorem dX4_expression_47 : decode cX4_expression 47 = .ok (.ifCond .eq 293, 3) := dk_153 1 37 (dk_at dksX4_expression_2 0 rfl rfl)
theorem dX4_expression_50 : decode cX4_expression 50 = .ok (.aload_n 0, 1) := dk_42 (dk_at dksX4_expression_2 3 rfl rfl)
theorem dX4_expression_51 : decode cX4_expression 51 = .ok (.invokevirtual 186, 3) := dk_182 0 186 (dk_at dksX4_expression_2 4 rfl rfl)
theorem dX4_expression_54 : decode cX4_expression 54 = .ok (.istore 4, 2) := dk_54 4 (dk_at dksX4_expression_2 7 rfl rfl)
theorem dX4_expression_56 : decode cX4_expression 56 = .ok (.iload 4, 2) := dk_21 4 (dk_at dksX4_expression_2 9 rfl rfl)
theorem dX4_expression_58 : decode cX4_expression 58 = .ok (.bipush 14, 2) := dk_16 14 (dk_at dksX4_expression_2 11 rfl rfl)
theorem dX4_expression_60 : decode cX4_expression 60 = .ok (.if_icmp .eq 10, 3) := dk_159 0 10 (dk_at dksX4_expression_2 13 rfl rfl)
theorem dX4_expression_63 : decode cX4_expression 63 = .ok (.iload 4, 2) := dk_21 4 (dk_at dksX4_expression_2 16 rfl rfl)
theorem dX4_expression_65 : decode cX4_expression 65 = .ok (.bipush 15, 2) := dk_16 15 (dk_at dksX4_expression_2 18 rfl rfl)
theorem dX4_expression_67 : decode cX4_expression 67 = .ok (.if_icmp .ne 57, 3) := dk_160 0 57 (dk_at dksX4_expression_2 20 rfl rfl)
theorem dX4_expression_70 : decode cX4_expression 70 = .ok (.aload_n 0, 1) := dk_42 (dk_at dksX4_expression_2 23 rfl rfl)
theorem dX4_expression_71 : decode cX4_expression 71 = .ok (.iload 4, 2) := dk_21 4 (dk_at dksX4_expression_3 0 rfl rfl)
theorem dX4_expression_73 : decode cX4_expression 73 = .ok (.bipush 14, 2) := dk_16 14 (dk_at dksX4_expression_3 2 rfl rfl)
theorem dX4_expression_75 : decode cX4_expression 75 = .ok (.if_icmp .ne 7, 3) := dk_160 0 7 (dk_at dksX4_expression_3 4 rfl rfl)
theorem dX4_expression_78 : decode cX4_expression 78 = .ok (.iconst 2, 1) := dk_5 (dk_at dksX4_expression_3 7 rfl rfl)
theorem dX4_expression_79 : decode cX4_expression 79 = .ok (.goto 4, 3) := dk_167 0 4 (dk_at dksX4_expression_3 8 rfl rfl)
theorem dX4_expression_82 : decode cX4_expression 82 = .ok (.iconst 1, 1) := dk_4 (dk_at dksX4_expression_3 11 rfl rfl)
theorem dX4_expression_83 : decode cX4_expression 83 = .ok (.invokevirtual 211, 3) := dk_182 0 211 (dk_at dksX4_expression_3 12 rfl rfl)
theorem dX4_expression_86 : decode cX4_expression 86 = .ok (.aload_n 0, 1) := dk_42 (dk_at dksX4_expression_3 15 rfl rfl)
theorem dX4_expression_87 : decode cX4_expression 87 = .ok (.iload 4, 2) := dk_21 4 (dk_at dksX4_expression_3 16 rfl rfl)
theorem dX4_expression_89 : decode cX4_expression 89 = .ok (.bipush 14, 2) := dk_16 14 (dk_at dksX4_expression_3 18 rfl rfl)
theorem dX4_expression_91 : decode cX4_expression 91 = .ok (.if_icmp .ne 7, 3) := dk_160 0 7 (dk_at dksX4_expression_3 20 rfl rfl)
theorem dX4_expression_94 : decode cX4_expression 94 = .ok (.iconst 4, 1) := dk_7 (dk_at dksX4_expression_3 23 rfl rfl)
theorem dX4_expression_95 : decode cX4_expression 95 = .ok (.goto 4, 3) := dk_167 0 4 (dk_at dksX4_expression_4 0 rfl rfl)
theorem dX4_expression_98 : decode cX4_expression 98 = .ok (.iconst 5, 1) := dk_8 (dk_at dksX4_expression_4 3 rfl rfl)
theorem dX4_expression_99 : decode cX4_expression 99 = .ok (.invokevirtual 202, 3) := dk_182 0 202 (dk_at dksX4_expression_4 4 rfl rfl)
theorem dX4_expression_102 : decode cX4_expression 102 = .ok (.aload_n 0, 1) := dk_42 (dk_at dksX4_expression_4 7 rfl rfl)
theorem dX4_expression_103 : decode cX4_expression 103 = .ok (.getfield 62, 3) := dk_180 0 62 (dk_at dksX4_expression_4 8 rfl rfl)
theorem dX4_expression_106 : decode cX4_expression 106 = .ok (.aload_n 0, 1) := dk_42 (dk_at dksX4_expression_4 11 rfl rfl)
theorem dX4_expression_107 : decode cX4_expression 107 = .ok (.getfield 196, 3) := dk_180 0 196 (dk_at dksX4_expression_4 12 rfl rfl)
theorem dX4_expression_110 : decode cX4_expression 110 = .ok (.iconst 0, 1) := dk_3 (dk_at dksX4_expression_4 15 rfl rfl)
theorem dX4_expression_111 : decode cX4_expression 111 = .ok (.bastore, 1) := dk_84 (dk_at dksX4_expression_4 16 rfl rfl)
theorem dX4_expression_112 : decode cX4_expression 112 = .ok (.aload_n 0, 1) := dk_42 (dk_at dksX4_expression_4 17 rfl rfl)
theorem dX4_expression_113 : decode cX4_expression 113 = .ok (.invokevirtual 165, 3) := dk_182 0 165 (dk_at dksX4_expression_4 18 rfl rfl)
theorem dX4_expression_116 : decode cX4_expression 116 = .ok (.aload_n 0, 1) := dk_42 (dk_at dksX4_expression_4 21 rfl rfl)
theorem dX4_expression_117 : decode cX4_expression 117 = .ok (.iconst 1, 1) := dk_4 (dk_at dksX4_expression_4 22 rfl rfl)
theorem dX4_expression_118 : decode cX4_expression 118 = .ok (.invokevirtual 214, 3) := dk_182 0 214 (dk_at dksX4_expression_5 0 rfl rfl)
theorem dX4_expression_121 : decode cX4_expression 121 = .ok (.goto 216, 3) := dk_167 0 216 (dk_at dksX4_expression_5 3 rfl rfl)
theorem dX4_expression_124 : decode cX4_expression 124 = .ok (.aload_n 0, 1) := dk_42 (dk_at dksX4_expression_5 6 rfl rfl)
theorem dX4_expression_125 : decode cX4_expression 125 = .ok (.bipush 60, 2) := dk_16 60 (dk_at dksX4_expression_5 7 rfl rfl)
theorem dX4_expression_127 : decode cX4_expression 127 = .ok (.invokevirtual 199, 3) := dk_182 0 199 (dk_at dksX4_expression_5 9 rfl rfl)
theorem dX4_expression_130 : decode cX4_expression 130 = .ok (.ifCond .ne 12, 3) := dk_154 0 12 (dk_at dksX4_expression_5 12 rfl rfl)
theorem dX4_expression_133 : decode cX4_expression 133 = .ok (.aload_n 0, 1) := dk_42 (dk_at dksX4_expression_5 15 rfl rfl)
theorem dX4_expression_134 : decode cX4_expression 134 = .ok (.bipush 61, 2) := dk_16 61 (dk_at dksX4_expression_5 16 rfl rfl)
theorem dX4_expression_136 : decode cX4_expression 136 = .ok (.invokevirtual 199, 3) := dk_182 0 199 (dk_at dksX4_expression_5 18 rfl rfl)
theorem dX4_expression_139 : decode cX4_expression 139 = .ok (.ifCond .eq 62, 3) := dk_153 0 62 (dk_at dksX4_expression_5 21 rfl rfl)
theorem dX4_expression_142 : decode cX4_expression 142 = .ok (.aload_n 0, 1) := dk_42 (dk_at dksX4_expression_6 0 rfl rfl)
theorem dX4_expression_143 : decode cX4_expression 143 = .ok (.getfield 62, 3) := dk_180 0 62 (dk_at dksX4_expression_6 1 rfl rfl)
theorem dX4_expression_146 : decode cX4_expression 146 = .ok (.aload_n 0, 1) := dk_42 (dk_at dksX4_expression_6 4 rfl rfl)
theorem dX4_expression_147 : decode cX4_expression 147 = .ok (.getfield 196, 3) := dk_180 0 196 (dk_at dksX4_expression_6 5 rfl rfl)
theorem dX4_expression_150 : decode cX4_expression 150 = .ok (.baload, 1) := dk_51 (dk_at dksX4_expression_6 8 rfl rfl)
theorem dX4_expression_151 : decode cX4_expression 151 = .ok (.ifCond .ne 50, 3) := dk_154 0 50 (dk_at dksX4_expression_6 9 rfl rfl)
theorem dX4_expression_154 : decode cX4_expression 154 = .ok (.aload_n 0, 1) := dk_42 (dk_at dksX4_expression_6 12 rfl rfl)
theorem dX4_expression_155 : decode cX4_expression 155 = .ok (.iconst 4, 1) := dk_7 (dk_at dksX4_expression_6 13 rfl rfl)
theorem dX4_expression_156 : decode cX4_expression 156 = .ok (.invokevirtual 211, 3) := dk_182 0 211 (dk_at dksX4_expression_6 14 rfl rfl)
theorem dX4_expression_159 : decode cX4_expression 159 = .ok (.aload_n 0, 1) := dk_42 (dk_at dksX4_expression_6 17 rfl rfl)
theorem dX4_expression_160 : decode cX4_expression 160 = .ok (.aload_n 0, 1) := dk_42 (dk_at dksX4_expression_6 18 rfl rfl)
theorem dX4_expression_161 : decode cX4_expression 161 = .ok (.bipush 60, 2) := dk_16 60 (dk_at dksX4_expression_6 19 rfl rfl)
theorem dX4_expression_163 : decode cX4_expression 163 = .ok (.invokevirtual 199, 3) := dk_182 0 199 (dk_at dksX4_expression_6 21 rfl rfl)
theorem dX4_expression_166 : decode cX4_expression 166 = .ok (.ifCond .eq 8, 3) := dk_153 0 8 (dk_at dksX4_expression_7 0 rfl rfl)
theorem dX4_expression_169 : decode cX4_expression 169 = .ok (.bipush 6, 2) := dk_16 6 (dk_at dksX4_expression_7 3 rfl rfl)
theorem dX4_expression_171 : decode cX4_expression 171 = .ok (.goto 5, 3) := dk_167 0 5 (dk_at dksX4_expression_7 5 rfl rfl)
theorem dX4_expression_174 : decode cX4_expression 174 = .ok (.bipush 7, 2) := dk_16 7 (dk_at dksX4_expression_7 8 rfl rfl)
theorem dX4_expression_176 : decode cX4_expression 176 = .ok (.invokevirtual 202, 3) := dk_182 0 202 (dk_at dksX4_expression_7 10 rfl rfl)
theorem dX4_expression_179 : decode cX4_expression 179 = .ok (.aload_n 0, 1) := dk_42 (dk_at dksX4_expression_7 13 rfl rfl)
theorem dX4_expression_180 : decode cX4_expression 180 = .ok (.getfield 62, 3) := dk_180 0 62 (dk_at dksX4_expression_7 14 rfl rfl)
theorem dX4_expression_183 : decode cX4_expression 183 = .ok (.aload_n 0, 1) := dk_42 (dk_at dksX4_expression_7 17 rfl rfl)
theorem dX4_expression_184 : decode cX4_expression 184 = .ok (.getfield 196, 3) := dk_180 0 196 (dk_at dksX4_expression_7 18 rfl rfl)
theorem dX4_expression_187 : decode cX4_expression 187 = .ok (.iconst 1, 1) := dk_4 (dk_at dksX4_expression_7 21 rfl rfl)
theorem dX4_expression_188 : decode cX4_expression 188 = .ok (.bastore, 1) := dk_84 (dk_at dksX4_expression_7 22 rfl rfl)
theorem dX4_expression_189 : decode cX4_expression 189 = .ok (.aload_n 0, 1) := dk_42 (dk_at dksX4_expression_7 23 rfl rfl)
theorem dX4_expression_190 : decode cX4_expression 190 = .ok (.invokevirtual 165, 3) := dk_182 0 165 (dk_at dksX4_expression_8 0 rfl rfl)
theorem dX4_expression_193 : decode cX4_expression 193 = .ok (.aload_n 0, 1) := dk_42 (dk_at dksX4_expression_8 3 rfl rfl)
theorem dX4_expression_194 : decode cX4_expression 194 = .ok (.iconst 0, 1) := dk_3 (dk_at dksX4_expression_8 4 rfl rfl)
theorem dX4_expression_195 : decode cX4_expression 195 = .ok (.invokevirtual 214, 3) := dk_182 0 214 (dk_at dksX4_expression_8 5 rfl rfl)
theorem dX4_expression_198 : decode cX4_expression 198 = .ok (.goto 139, 3) := dk_167 0 139 (dk_at dksX4_expression_8 8 rfl rfl)
theorem dX4_expression_201 : decode cX4_expression 201 = .ok (.aload_n 0, 1) := dk_42 (dk_at dksX4_expression_8 11 rfl rfl)
theorem dX4_expression_202 : decode cX4_expression 202 = .ok (.bipush 43, 2) := dk_16 43 (dk_at dksX4_expression_8 12 rfl rfl)
theorem dX4_expression_204 : decode cX4_expression 204 = .ok (.invokevirtual 199, 3) := dk_182 0 199 (dk_at dksX4_expression_8 14 rfl rfl)
theorem dX4_expression_207 : decode cX4_expression 207 = .ok (.ifCond .ne 12, 3) := dk_154 0 12 (dk_at dksX4_expression_8 17 rfl rfl)
theorem dX4_expression_210 : decode cX4_expression 210 = .ok (.aload_n 0, 1) := dk_42 (dk_at dksX4_expression_8 20 rfl rfl)
theorem dX4_expression_211 : decode cX4_expression 211 = .ok (.bipush 45, 2) := dk_16 45 (dk_at dksX4_expression_8 21 rfl rfl)
theorem dX4_expression_213 : decode cX4_expression 213 = .ok (.invokevirtual 199, 3) := dk_182 0 199 (dk_at dksX4_expression_9 0 rfl rfl)
theorem dX4_expression_216 : decode cX4_expression 216 = .ok (.ifCond .eq 40, 3) := dk_153 0 40 (dk_at dksX4_expression_9 3 rfl rfl)
theorem dX4_expression_219 : decode cX4_expression 219 = .ok (.aload_n 0, 1) := dk_42 (dk_at dksX4_expression_9 6 rfl rfl)
theorem dX4_expression_220 : decode cX4_expression 220 = .ok (.iconst 5, 1) := dk_8 (dk_at dksX4_expression_9 7 rfl rfl)
theorem dX4_expression_221 : decode cX4_expression 221 = .ok (.invokevirtual 211, 3) := dk_182 0 211 (dk_at dksX4_expression_9 8 rfl rfl)
theorem dX4_expression_224 : decode cX4_expression 224 = .ok (.aload_n 0, 1) := dk_42 (dk_at dksX4_expression_9 11 rfl rfl)
theorem dX4_expression_225 : decode cX4_expression 225 = .ok (.aload_n 0, 1) := dk_42 (dk_at dksX4_expression_9 12 rfl rfl)
theorem dX4_expression_226 : decode cX4_expression 226 = .ok (.bipush 43, 2) := dk_16 43 (dk_at dksX4_expression_9 13 rfl rfl)
theorem dX4_expression_228 : decode cX4_expression 228 = .ok (.invokevirtual 199, 3) := dk_182 0 199 (dk_at dksX4_expression_9 15 rfl rfl)
theorem dX4_expression_231 : decode cX4_expression 231 = .ok (.ifCond .eq 8, 3) := dk_153 0 8 (dk_at dksX4_expression_9 18 rfl rfl)
theorem dX4_expression_234 : decode cX4_expression 234 = .ok (.bipush 8, 2) := dk_16 8 (dk_at dksX4_expression_9 21 rfl rfl)
theorem dX4_expression_236 : decode cX4_expression 236 = .ok (.goto 5, 3) := dk_167 0 5 (dk_at dksX4_expression_10 0 rfl rfl)
theorem dX4_expression_239 : decode cX4_expression 239 = .ok (.bipush 9, 2) := dk_16 9 (dk_at dksX4_expression_10 3 rfl rfl)
theorem dX4_expression_241 : decode cX4_expression 241 = .ok (.invokevirtual 202, 3) := dk_182 0 202 (dk_at dksX4_expression_10 5 rfl rfl)
theorem dX4_expression_244 : decode cX4_expression 244 = .ok (.aload_n 0, 1) := dk_42 (dk_at dksX4_expression_10 8 rfl rfl)
theorem dX4_expression_245 : decode cX4_expression 245 = .ok (.invokevirtual 165, 3) := dk_182 0 165 (dk_at dksX4_expression_10 9 rfl rfl)
theorem dX4_expression_248 : decode cX4_expression 248 = .ok (.aload_n 0, 1) := dk_42 (dk_at dksX4_expression_10 12 rfl rfl)
theorem dX4_expression_249 : decode cX4_expression 249 = .ok (.iconst 0, 1) := dk_3 (dk_at dksX4_expression_10 13 rfl rfl)
theorem dX4_expression_250 : decode cX4_expression 250 = .ok (.invokevirtual 214, 3) := dk_182 0 214 (dk_at dksX4_expression_10 14 rfl rfl)
theorem dX4_expression_253 : decode cX4_expression 253 = .ok (.goto 84, 3) := dk_167 0 84 (dk_at dksX4_expression_10 17 rfl rfl)
theorem dX4_expression_256 : decode cX4_expression 256 = .ok (.aload_n 0, 1) := dk_42 (dk_at dksX4_expression_10 20 rfl rfl)
theorem dX4_expression_257 : decode cX4_expression 257 = .ok (.bipush 42, 2) := dk_16 42 (dk_at dksX4_expression_10 21 rfl rfl)
theorem dX4_expression_259 : decode cX4_expression 259 = .ok (.invokevirtual 199, 3) := dk_182 0 199 (dk_at dksX4_expression_11 0 rfl rfl)
theorem dX4_expression_262 : decode cX4_expression 262 = .ok (.ifCond .ne 12, 3) := dk_154 0 12 (dk_at dksX4_expression_11 3 rfl rfl)
theorem dX4_expression_265 : decode cX4_expression 265 = .ok (.aload_n 0, 1) := dk_42 (dk_at dksX4_expression_11 6 rfl rfl)
theorem dX4_expression_266 : decode cX4_expression 266 = .ok (.bipush 47, 2) := dk_16 47 (dk_at dksX4_expression_11 7 rfl rfl)
theorem dX4_expression_268 : decode cX4_expression 268 = .ok (.invokevirtual 199, 3) := dk_182 0 199 (dk_at dksX4_expression_11 9 rfl rfl)
theorem dX4_expression_271 : decode cX4_expression 271 = .ok (.ifCond .eq 41, 3) := dk_153 0 41 (dk_at dksX4_expression_11 12 rfl rfl)
theorem dX4_expression_274 : decode cX4_expression 274 = .ok (.aload_n 0, 1) := dk_42 (dk_at dksX4_expression_11 15 rfl rfl)
theorem dX4_expression_275 : decode cX4_expression 275 = .ok (.bipush 6, 2) := dk_16 6 (dk_at dksX4_expression_11 16 rfl rfl)
theorem dX4_expression_277 : decode cX4_expression 277 = .ok (.invokevirtual 211, 3) := dk_182 0 211 (dk_at dksX4_expression_11 18 rfl rfl)
theorem dX4_expression_280 : decode cX4_expression 280 = .ok (.aload_n 0, 1) := dk_42 (dk_at dksX4_expression_11 21 rfl rfl)
theorem dX4_expression_281 : decode cX4_expression 281 = .ok (.aload_n 0, 1) := dk_42 (dk_at dksX4_expression_11 22 rfl rfl)
theorem dX4_expression_282 : decode cX4_expression 282 = .ok (.bipush 42, 2) := dk_16 42 (dk_at dksX4_expression_12 0 rfl rfl)
theorem dX4_expression_284 : decode cX4_expression 284 = .ok (.invokevirtual 199, 3) := dk_182 0 199 (dk_at dksX4_expression_12 2 rfl rfl)
theorem dX4_expression_287 : decode cX4_expression 287 = .ok (.ifCond .eq 8, 3) := dk_153 0 8 (dk_at dksX4_expression_12 5 rfl rfl)
theorem dX4_expression_290 : decode cX4_expression 290 = .ok (.bipush 10, 2) := dk_16 10 (dk_at dksX4_expression_12 8 rfl rfl)
theorem dX4_expression_292 : decode cX4_expression 292 = .ok (.goto 5, 3) := dk_167 0 5 (dk_at dksX4_expression_12 10 rfl rfl)
theorem dX4_expression_295 : decode cX4_expression 295 = .ok (.bipush 11, 2) := dk_16 11 (dk_at dksX4_expression_12 13 rfl rfl)
theorem dX4_expression_297 : decode cX4_expression 297 = .ok (.invokevirtual 202, 3) := dk_182 0 202 (dk_at dksX4_expression_12 15 rfl rfl)
theorem dX4_expression_300 : decode cX4_expression 300 = .ok (.aload_n 0, 1) := dk_42 (dk_at dksX4_expression_12 18 rfl rfl)
theorem dX4_expression_301 : decode cX4_expression 301 = .ok (.invokevirtual 165, 3) := dk_182 0 165 (dk_at dksX4_expression_12 19 rfl rfl)
theorem dX4_expression_304 : decode cX4_expression 304 = .ok (.aload_n 0, 1) := dk_42 (dk_at dksX4_expression_12 22 rfl rfl)
theorem dX4_expression_305 : decode cX4_expression 305 = .ok (.iconst 0, 1) := dk_3 (dk_at dksX4_expression_12 23 rfl rfl)
theorem dX4_expression_306 : decode cX4_expression 306 = .ok (.invokevirtual 214, 3) := dk_182 0 214 (dk_at dksX4_expression_13 0 rfl rfl)
theorem dX4_expression_309 : decode cX4_expression 309 = .ok (.goto 28, 3) := dk_167 0 28 (dk_at dksX4_expression_13 3 rfl rfl)
theorem dX4_expression_312 : decode cX4_expression 312 = .ok (.aload_n 0, 1) := dk_42 (dk_at dksX4_expression_13 6 rfl rfl)
theorem dX4_expression_313 : decode cX4_expression 313 = .ok (.bipush 41, 2) := dk_16 41 (dk_at dksX4_expression_13 7 rfl rfl)
theorem dX4_expression_315 : decode cX4_expression 315 = .ok (.invokevirtual 199, 3) := dk_182 0 199 (dk_at dksX4_expression_13 9 rfl rfl)
theorem dX4_expression_318 : decode cX4_expression 318 = .ok (.ifCond .eq 17, 3) := dk_153 0 17 (dk_at dksX4_expression_13 12 rfl rfl)
theorem dX4_expression_321 : decode cX4_expression 321 = .ok (.aload_n 0, 1) := dk_42 (dk_at dksX4_expression_13 15 rfl rfl)
theorem dX4_expression_322 : decode cX4_expression 322 = .ok (.invokevirtual 218, 3) := dk_182 0 218 (dk_at dksX4_expression_13 16 rfl rfl)
theorem dX4_expression_325 : decode cX4_expression 325 = .ok (.ifCond .eq 10, 3) := dk_153 0 10 (dk_at dksX4_expression_13 19 rfl rfl)
theorem dX4_expression_328 : decode cX4_expression 328 = .ok (.aload_n 0, 1) := dk_42 (dk_at dksX4_expression_13 22 rfl rfl)
theorem dX4_expression_329 : decode cX4_expression 329 = .ok (.invokevirtual 221, 3) := dk_182 0 221 (dk_at dksX4_expression_14 0 rfl rfl)
theorem dX4_expression_332 : decode cX4_expression 332 = .ok (.goto 5, 3) := dk_167 0 5 (dk_at dksX4_expression_14 3 rfl rfl)
theorem dX4_expression_335 : decode cX4_expression 335 = .ok (.iconst 0, 1) := dk_3 (dk_at dksX4_expression_14 6 rfl rfl)
theorem dX4_expression_336 : decode cX4_expression 336 = .ok (.istore_n 3, 1) := dk_62 (dk_at dksX4_expression_14 7 rfl rfl)
theorem dX4_expression_337 : decode cX4_expression 337 = .ok (.goto (-298), 3) := dk_167 254 214 (dk_at dksX4_expression_14 8 rfl rfl)
theorem dX4_expression_340 : decode cX4_expression 340 = .ok (.aload_n 0, 1) := dk_42 (dk_at dksX4_expression_14 11 rfl rfl)
theorem dX4_expression_341 : decode cX4_expression 341 = .ok (.invokevirtual 161, 3) := dk_182 0 161 (dk_at dksX4_expression_14 12 rfl rfl)
theorem dX4_expression_344 : decode cX4_expression 344 = .ok (.ifCond .eq 16, 3) := dk_153 0 16 (dk_at dksX4_expression_14 15 rfl rfl)
theorem dX4_expression_347 : decode cX4_expression 347 = .ok (.aload_n 0, 1) := dk_42 (dk_at dksX4_expression_14 18 rfl rfl)
theorem dX4_expression_348 : decode cX4_expression 348 = .ok (.getfield 196, 3) := dk_180 0 196 (dk_at dksX4_expression_14 19 rfl rfl)
theorem dX4_expression_351 : decode cX4_expression 351 = .ok (.iconst 1, 1) := dk_4 (dk_at dksX4_expression_14 22 rfl rfl)
theorem dX4_expression_352 : decode cX4_expression 352 = .ok (.if_icmp .le 8, 3) := dk_164 0 8 (dk_at dksX4_expression_15 0 rfl rfl)
theorem dX4_expression_355 : decode cX4_expression 355 = .ok (.aload_n 0, 1) := dk_42 (dk_at dksX4_expression_15 3 rfl rfl)
theorem dX4_expression_356 : decode cX4_expression 356 = .ok (.iconst 1, 1) := dk_4 (dk_at dksX4_expression_15 4 rfl rfl)
theorem dX4_expression_357 : decode cX4_expression 357 = .ok (.invokevirtual 168, 3) := dk_182 0 168 (dk_at dksX4_expression_15 5 rfl rfl)
theorem dX4_expression_360 : decode cX4_expression 360 = .ok (.aload_n 0, 1) := dk_42 (dk_at dksX4_expression_15 8 rfl rfl)
theorem dX4_expression_361 : decode cX4_expression 361 = .ok (.iconst 0, 1) := dk_3 (dk_at dksX4_expression_15 9 rfl rfl)
theorem dX4_expression_362 : decode cX4_expression 362 = .ok (.invokevirtual 211, 3) := dk_182 0 211 (dk_at dksX4_expression_15 10 rfl rfl)
theorem dX4_expression_365 : decode cX4_expression 365 = .ok (.aload_n 0, 1) := dk_42 (dk_at dksX4_expression_15 13 rfl rfl)
theorem dX4_expression_366 : decode cX4_expression 366 = .ok (.iconst 0, 1) := dk_3 (dk_at dksX4_expression_15 14 rfl rfl)
theorem dX4_expression_367 : decode cX4_expression 367 = .ok (.invokevirtual 183, 3) := dk_182 0 183 (dk_at dksX4_expression_15 15 rfl rfl)
theorem dX4_expression_370 : decode cX4_expression 370 = .ok (.return_, 1) := dk_177 (dk_at dksX4_expression_15 18 rfl rfl)
abbrev cX4_deeper : ByteArray := prog_12_method_29_code
def yX4_deeper : MethodName := ⟨RX4, "deeper", "()V"⟩
def dkwX4_deeper_2 : List UInt8 := [16, 40, 182, 0, 199, 153, 0, 7, 5, 167, 0, 4, 4, 182, 0, 168, 177]
abbrev dktX4_deeper_2 : List UInt8 := dkwX4_deeper_2 ++ []
def dkwX4_deeper_1 : List UInt8 := [180, 0, 196, 3, 84, 177, 42, 42, 180, 0, 135, 5, 159, 0, 20, 42, 180, 0, 135, 4, 159, 0, 12, 42]
abbrev dktX4_deeper_1 : List UInt8 := dkwX4_deeper_1 ++ dktX4_deeper_2
def dkwX4_deeper_0 : List UInt8 := [42, 180, 0, 196, 16, 6, 162, 0, 24, 42, 89, 180, 0, 196, 4, 96, 181, 0, 196, 42, 180, 0, 62, 42]
abbrev dktX4_deeper_0 : List UInt8 := dkwX4_deeper_0 ++ dktX4_deeper_1
theorem dksX4_deeper_0 : cX4_deeper.data.toList.drop 0 = dktX4_deeper_0 := by decide +kernel
theorem dksX4_deeper_1 : cX4_deeper.data.toList.drop 24 = dktX4_deeper_1 := dk_seg dksX4_deeper_0 24 rfl rfl
theorem dksX4_deeper_2 : cX4_deeper.data.toList.drop 48 = dktX4_deeper_2 := dk_seg dksX4_deeper_1 24 rfl rfl
theorem dX4_deeper_0 : decode cX4_deeper 0 = .ok (.aload_n 0, 1) := dk_42 (dk_at dksX4_deeper_0 0 rfl rfl)
theorem dX4_deeper_1 : decode cX4_deeper 1 = .ok (.getfield 196, 3) := dk_180 0 196 (dk_at dksX4_deeper_0 1 rfl rfl)
theorem dX4_deeper_4 : decode cX4_deeper 4 = .ok (.bipush 6, 2) := dk_16 6 (dk_at dksX4_deeper_0 4 rfl rfl)
theorem dX4_deeper_6 : decode cX4_deeper 6 = .ok (.if_icmp .ge 24, 3) := dk_162 0 24 (dk_at dksX4_deeper_0 6 rfl rfl)
theorem dX4_deeper_9 : decode cX4_deeper 9 = .ok (.aload_n 0, 1) := dk_42 (dk_at dksX4_deeper_0 9 rfl rfl)
theorem dX4_deeper_10 : decode cX4_deeper 10 = .ok (.dup, 1) := dk_89 (dk_at dksX4_deeper_0 10 rfl rfl)
theorem dX4_deeper_11 : decode cX4_deeper 11 = .ok (.getfield 196, 3) := dk_180 0 196 (dk_at dksX4_deeper_0 11 rfl rfl)
theorem dX4_deeper_14 : decode cX4_deeper 14 = .ok (.iconst 1, 1) := dk_4 (dk_at dksX4_deeper_0 14 rfl rfl)
theorem dX4_deeper_15 : decode cX4_deeper 15 = .ok (.iadd, 1) := dk_96 (dk_at dksX4_deeper_0 15 rfl rfl)
theorem dX4_deeper_16 : decode cX4_deeper 16 = .ok (.putfield 196, 3) := dk_181 0 196 (dk_at dksX4_deeper_0 16 rfl rfl)
theorem dX4_deeper_19 : decode cX4_deeper 19 = .ok (.aload_n 0, 1) := dk_42 (dk_at dksX4_deeper_0 19 rfl rfl)
theorem dX4_deeper_20 : decode cX4_deeper 20 = .ok (.getfield 62, 3) := dk_180 0 62 (dk_at dksX4_deeper_0 20 rfl rfl)
theorem dX4_deeper_23 : decode cX4_deeper 23 = .ok (.aload_n 0, 1) := dk_42 (dk_at dksX4_deeper_0 23 rfl rfl)
theorem dX4_deeper_24 : decode cX4_deeper 24 = .ok (.getfield 196, 3) := dk_180 0 196 (dk_at dksX4_deeper_1 0 rfl rfl)
theorem dX4_deeper_27 : decode cX4_deeper 27 = .ok (.iconst 0, 1) := dk_3 (dk_at dksX4_deeper_1 3 rfl rfl)
theorem dX4_deeper_28 : decode cX4_deeper 28 = .ok (.bastore, 1) := dk_84 (dk_at dksX4_deeper_1 4 rfl rfl)
theorem dX4_deeper_29 : decode cX4_deeper 29 = .ok (.return_, 1) := dk_177 (dk_at dksX4_deeper_1 5 rfl rfl)
theorem dX4_deeper_30 : decode cX4_deeper 30 = .ok (.aload_n 0, 1) := dk_42 (dk_at dksX4_deeper_1 6 rfl rfl)
theorem dX4_deeper_31 : decode cX4_deeper 31 = .ok (.aload_n 0, 1) := dk_42 (dk_at dksX4_deeper_1 7 rfl rfl)
theorem dX4_deeper_32 : decode cX4_deeper 32 = .ok (.getfield 135, 3) := dk_180 0 135 (dk_at dksX4_deeper_1 8 rfl rfl)
theorem dX4_deeper_35 : decode cX4_deeper 35 = .ok (.iconst 2, 1) := dk_5 (dk_at dksX4_deeper_1 11 rfl rfl)
theorem dX4_deeper_36 : decode cX4_deeper 36 = .ok (.if_icmp .eq 20, 3) := dk_159 0 20 (dk_at dksX4_deeper_1 12 rfl rfl)
theorem dX4_deeper_39 : decode cX4_deeper 39 = .ok (.aload_n 0, 1) := dk_42 (dk_at dksX4_deeper_1 15 rfl rfl)
theorem dX4_deeper_40 : decode cX4_deeper 40 = .ok (.getfield 135, 3) := dk_180 0 135 (dk_at dksX4_deeper_1 16 rfl rfl)
theorem dX4_deeper_43 : decode cX4_deeper 43 = .ok (.iconst 1, 1) := dk_4 (dk_at dksX4_deeper_1 19 rfl rfl)
theorem dX4_deeper_44 : decode cX4_deeper 44 = .ok (.if_icmp .eq 12, 3) := dk_159 0 12 (dk_at dksX4_deeper_1 20 rfl rfl)
theorem dX4_deeper_47 : decode cX4_deeper 47 = .ok (.aload_n 0, 1) := dk_42 (dk_at dksX4_deeper_1 23 rfl rfl)
theorem dX4_deeper_48 : decode cX4_deeper 48 = .ok (.bipush 40, 2) := dk_16 40 (dk_at dksX4_deeper_2 0 rfl rfl)
theorem dX4_deeper_50 : decode cX4_deeper 50 = .ok (.invokevirtual 199, 3) := dk_182 0 199 (dk_at dksX4_deeper_2 2 rfl rfl)
theorem dX4_deeper_53 : decode cX4_deeper 53 = .ok (.ifCond .eq 7, 3) := dk_153 0 7 (dk_at dksX4_deeper_2 5 rfl rfl)
theorem dX4_deeper_56 : decode cX4_deeper 56 = .ok (.iconst 2, 1) := dk_5 (dk_at dksX4_deeper_2 8 rfl rfl)
theorem dX4_deeper_57 : decode cX4_deeper 57 = .ok (.goto 4, 3) := dk_167 0 4 (dk_at dksX4_deeper_2 9 rfl rfl)
theorem dX4_deeper_60 : decode cX4_deeper 60 = .ok (.iconst 1, 1) := dk_4 (dk_at dksX4_deeper_2 12 rfl rfl)
theorem dX4_deeper_61 : decode cX4_deeper 61 = .ok (.invokevirtual 168, 3) := dk_182 0 168 (dk_at dksX4_deeper_2 13 rfl rfl)
theorem dX4_deeper_64 : decode cX4_deeper 64 = .ok (.return_, 1) := dk_177 (dk_at dksX4_deeper_2 16 rfl rfl)
abbrev cX4_isSign : ByteArray := prog_12_method_19_code
def yX4_isSign : MethodName := ⟨RX4, "isSign", "(I)Z"⟩
def dkwX4_isSign_0 : List UInt8 := [42, 180, 0, 135, 6, 160, 0, 15, 42, 180, 0, 132, 27, 160, 0, 7, 4, 167, 0, 4, 3, 172]
abbrev dktX4_isSign_0 : List UInt8 := dkwX4_isSign_0 ++ []
theorem dksX4_isSign_0 : cX4_isSign.data.toList.drop 0 = dktX4_isSign_0 := by decide +kernel
theorem dX4_isSign_0 : decode cX4_isSign 0 = .ok (.aload_n 0, 1) := dk_42 (dk_at dksX4_isSign_0 0 rfl rfl)
theorem dX4_isSign_1 : decode cX4_isSign 1 = .ok (.getfield 135, 3) := dk_180 0 135 (dk_at dksX4_isSign_0 1 rfl rfl)
theorem dX4_isSign_4 : decode cX4_isSign 4 = .ok (.iconst 3, 1) := dk_6 (dk_at dksX4_isSign_0 4 rfl rfl)
theorem dX4_isSign_5 : decode cX4_isSign 5 = .ok (.if_icmp .ne 15, 3) := dk_160 0 15 (dk_at dksX4_isSign_0 5 rfl rfl)
theorem dX4_isSign_8 : decode cX4_isSign 8 = .ok (.aload_n 0, 1) := dk_42 (dk_at dksX4_isSign_0 8 rfl rfl)
theorem dX4_isSign_9 : decode cX4_isSign 9 = .ok (.getfield 132, 3) := dk_180 0 132 (dk_at dksX4_isSign_0 9 rfl rfl)
theorem dX4_isSign_12 : decode cX4_isSign 12 = .ok (.iload_n 1, 1) := dk_27 (dk_at dksX4_isSign_0 12 rfl rfl)
theorem dX4_isSign_13 : decode cX4_isSign 13 = .ok (.if_icmp .ne 7, 3) := dk_160 0 7 (dk_at dksX4_isSign_0 13 rfl rfl)
theorem dX4_isSign_16 : decode cX4_isSign 16 = .ok (.iconst 1, 1) := dk_4 (dk_at dksX4_isSign_0 16 rfl rfl)
theorem dX4_isSign_17 : decode cX4_isSign 17 = .ok (.goto 4, 3) := dk_167 0 4 (dk_at dksX4_isSign_0 17 rfl rfl)
theorem dX4_isSign_20 : decode cX4_isSign 20 = .ok (.iconst 0, 1) := dk_3 (dk_at dksX4_isSign_0 20 rfl rfl)
theorem dX4_isSign_21 : decode cX4_isSign 21 = .ok (.ireturn, 1) := dk_172 (dk_at dksX4_isSign_0 21 rfl rfl)
abbrev cX4_operand : ByteArray := prog_12_method_30_code
def yX4_operand : MethodName := ⟨RX4, "operand", "(Z)V"⟩
def dkwX4_operand_5 : List UInt8 := [61, 167, 255, 143, 42, 182, 0, 208, 177]
abbrev dktX4_operand_5 : List UInt8 := dkwX4_operand_5 ++ []
def dkwX4_operand_4 : List UInt8 := [167, 0, 4, 3, 62, 29, 153, 0, 19, 42, 16, 14, 182, 0, 202, 42, 182, 0, 165, 42, 182, 0, 205, 4]
abbrev dktX4_operand_4 : List UInt8 := dkwX4_operand_4 ++ dktX4_operand_5
def dkwX4_operand_3 : List UInt8 := [182, 0, 165, 167, 255, 202, 42, 182, 0, 161, 153, 0, 16, 42, 16, 40, 182, 0, 199, 153, 0, 7, 4]
abbrev dktX4_operand_3 : List UInt8 := dkwX4_operand_3 ++ dktX4_operand_4
def dkwX4_operand_2 : List UInt8 := [5, 182, 0, 168, 132, 4, 1, 42, 182, 0, 161, 154, 0, 6, 167, 255, 214, 42, 6, 182, 0, 202, 42]
abbrev dktX4_operand_2 : List UInt8 := dkwX4_operand_2 ++ dktX4_operand_3
def dkwX4_operand_1 : List UInt8 := [153, 0, 53, 28, 153, 0, 49, 42, 182, 0, 186, 16, 16, 160, 0, 40, 21, 4, 16, 6, 160, 0, 8, 42]
abbrev dktX4_operand_1 : List UInt8 := dkwX4_operand_1 ++ dktX4_operand_2
def dkwX4_operand_0 : List UInt8 := [27, 61, 4, 62, 29, 153, 0, 115, 42, 182, 0, 161, 153, 0, 108, 3, 54, 4, 42, 182, 0, 161]
abbrev dktX4_operand_0 : List UInt8 := dkwX4_operand_0 ++ dktX4_operand_1
theorem dksX4_operand_0 : cX4_operand.data.toList.drop 0 = dktX4_operand_0 := by decide +kernel
theorem dksX4_operand_1 : cX4_operand.data.toList.drop 22 = dktX4_operand_1 := dk_seg dksX4_operand_0 22 rfl rfl
theorem dksX4_operand_2 : cX4_operand.data.toList.drop 46 = dktX4_operand_2 := dk_seg dksX4_operand_1 24 rfl rfl
theorem dksX4_operand_3 : cX4_operand.data.toList.drop 69 = dktX4_operand_3 := dk_seg dksX4_operand_2 23 rfl rfl
theorem dksX4_operand_4 : cX4_operand.data.toList.drop 92 = dktX4_operand_4 := dk_seg dksX4_operand_3 23 rfl rfl
theorem dksX4_operand_5 : cX4_operand.data.toList.drop 116 = dktX4_operand_5 := dk_seg dksX4_operand_4 24 rfl rfl
theorem dX4_operand_0 : decode cX4_operand 0 = .ok (.iload_n 1, 1) := dk_27 (dk_at dksX4_operand_0 0 rfl rfl)
theorem dX4_operand_1 : decode cX4_operand 1 = .ok (.istore_n 2, 1) := dk_61 (dk_at dksX4_operand_0 1 rfl rfl)
theorem dX4_operand_2 : decode cX4_operand 2 = .ok (.iconst 1, 1) := dk_4 (dk_at dksX4_operand_0 2 rfl rfl)
theorem dX4_operand_3 : decode cX4_operand 3 = .ok (.istore_n 3, 1) := dk_62 (dk_at dksX4_operand_0 3 rfl rfl)
theorem dX4_operand_4 : decode cX4_operand 4 = .ok (.iload_n 3, 1) := dk_29 (dk_at dksX4_operand_0 4 rfl rfl)
theorem dX4_operand_5 : decode cX4_operand 5 = .ok (.ifCond .eq 115, 3) := dk_153 0 115 (dk_at dksX4_operand_0 5 rfl rfl)
theorem dX4_operand_8 : decode cX4_operand 8 = .ok (.aload_n 0, 1) := dk_42 (dk_at dksX4_operand_0 8 rfl rfl)
theorem dX4_operand_9 : decode cX4_operand 9 = .ok (.invokevirtual 161, 3) := dk_182 0 161 (dk_at dksX4_operand_0 9 rfl rfl)
theorem dX4_operand_12 : decode cX4_operand 12 = .ok (.ifCond .eq 108, 3) := dk_153 0 108 (dk_at dksX4_operand_0 12 rfl rfl)
theorem dX4_operand_15 : decode cX4_operand 15 = .ok (.iconst 0, 1) := dk_3 (dk_at dksX4_operand_0 15 rfl rfl)
theorem dX4_operand_16 : decode cX4_operand 16 = .ok (.istore 4, 2) := dk_54 4 (dk_at dksX4_operand_0 16 rfl rfl)
theorem dX4_operand_18 : decode cX4_operand 18 = .ok (.aload_n 0, 1) := dk_42 (dk_at dksX4_operand_0 18 rfl rfl)
theorem dX4_operand_19 : decode cX4_operand 19 = .ok (.invokevirtual 161, 3) := dk_182 0 161 (dk_at dksX4_operand_0 19 rfl rfl)
theorem dX4_operand_22 : decode cX4_operand 22 = .ok (.ifCond .eq 53, 3) := dk_153 0 53 (dk_at dksX4_operand_1 0 rfl rfl)
theorem dX4_operand_25 : decode cX4_operand 25 = .ok (.iload_n 2, 1) := dk_28 (dk_at dksX4_operand_1 3 rfl rfl)
theorem dX4_operand_26 : decode cX4_operand 26 = .ok (.ifCond .eq 49, 3) := dk_153 0 49 (dk_at dksX4_operand_1 4 rfl rfl)
theorem dX4_operand_29 : decode cX4_operand 29 = .ok (.aload_n 0, 1) := dk_42 (dk_at dksX4_operand_1 7 rfl rfl)
theorem dX4_operand_30 : decode cX4_operand 30 = .ok (.invokevirtual 186, 3) := dk_182 0 186 (dk_at dksX4_operand_1 8 rfl rfl)
theorem dX4_operand_33 : decode cX4_operand 33 = .ok (.bipush 16, 2) := dk_16 16 (dk_at dksX4_operand_1 11 rfl rfl)
theorem dX4_operand_35 : decode cX4_operand 35 = .ok (.if_icmp .ne 40, 3) := dk_160 0 40 (dk_at dksX4_operand_1 13 rfl rfl)
theorem dX4_operand_38 : decode cX4_operand 38 = .ok (.iload 4, 2) := dk_21 4 (dk_at dksX4_operand_1 16 rfl rfl)
theorem dX4_operand_40 : decode cX4_operand 40 = .ok (.bipush 6, 2) := dk_16 6 (dk_at dksX4_operand_1 18 rfl rfl)
theorem dX4_operand_42 : decode cX4_operand 42 = .ok (.if_icmp .ne 8, 3) := dk_160 0 8 (dk_at dksX4_operand_1 20 rfl rfl)
theorem dX4_operand_45 : decode cX4_operand 45 = .ok (.aload_n 0, 1) := dk_42 (dk_at dksX4_operand_1 23 rfl rfl)
theorem dX4_operand_46 : decode cX4_operand 46 = .ok (.iconst 2, 1) := dk_5 (dk_at dksX4_operand_2 0 rfl rfl)
theorem dX4_operand_47 : decode cX4_operand 47 = .ok (.invokevirtual 168, 3) := dk_182 0 168 (dk_at dksX4_operand_2 1 rfl rfl)
theorem dX4_operand_50 : decode cX4_operand 50 = .ok (.iinc 4 1, 3) := dk_132 4 1 (dk_at dksX4_operand_2 4 rfl rfl)
theorem dX4_operand_53 : decode cX4_operand 53 = .ok (.aload_n 0, 1) := dk_42 (dk_at dksX4_operand_2 7 rfl rfl)
theorem dX4_operand_54 : decode cX4_operand 54 = .ok (.invokevirtual 161, 3) := dk_182 0 161 (dk_at dksX4_operand_2 8 rfl rfl)
theorem dX4_operand_57 : decode cX4_operand 57 = .ok (.ifCond .ne 6, 3) := dk_154 0 6 (dk_at dksX4_operand_2 11 rfl rfl)
theorem dX4_operand_60 : decode cX4_operand 60 = .ok (.goto (-42), 3) := dk_167 255 214 (dk_at dksX4_operand_2 14 rfl rfl)
theorem dX4_operand_63 : decode cX4_operand 63 = .ok (.aload_n 0, 1) := dk_42 (dk_at dksX4_operand_2 17 rfl rfl)
theorem dX4_operand_64 : decode cX4_operand 64 = .ok (.iconst 3, 1) := dk_6 (dk_at dksX4_operand_2 18 rfl rfl)
theorem dX4_operand_65 : decode cX4_operand 65 = .ok (.invokevirtual 202, 3) := dk_182 0 202 (dk_at dksX4_operand_2 19 rfl rfl)
theorem dX4_operand_68 : decode cX4_operand 68 = .ok (.aload_n 0, 1) := dk_42 (dk_at dksX4_operand_2 22 rfl rfl)
theorem dX4_operand_69 : decode cX4_operand 69 = .ok (.invokevirtual 165, 3) := dk_182 0 165 (dk_at dksX4_operand_3 0 rfl rfl)
theorem dX4_operand_72 : decode cX4_operand 72 = .ok (.goto (-54), 3) := dk_167 255 202 (dk_at dksX4_operand_3 3 rfl rfl)
theorem dX4_operand_75 : decode cX4_operand 75 = .ok (.aload_n 0, 1) := dk_42 (dk_at dksX4_operand_3 6 rfl rfl)
theorem dX4_operand_76 : decode cX4_operand 76 = .ok (.invokevirtual 161, 3) := dk_182 0 161 (dk_at dksX4_operand_3 7 rfl rfl)
theorem dX4_operand_79 : decode cX4_operand 79 = .ok (.ifCond .eq 16, 3) := dk_153 0 16 (dk_at dksX4_operand_3 10 rfl rfl)
theorem dX4_operand_82 : decode cX4_operand 82 = .ok (.aload_n 0, 1) := dk_42 (dk_at dksX4_operand_3 13 rfl rfl)
theorem dX4_operand_83 : decode cX4_operand 83 = .ok (.bipush 40, 2) := dk_16 40 (dk_at dksX4_operand_3 14 rfl rfl)
theorem dX4_operand_85 : decode cX4_operand 85 = .ok (.invokevirtual 199, 3) := dk_182 0 199 (dk_at dksX4_operand_3 16 rfl rfl)
theorem dX4_operand_88 : decode cX4_operand 88 = .ok (.ifCond .eq 7, 3) := dk_153 0 7 (dk_at dksX4_operand_3 19 rfl rfl)
theorem dX4_operand_91 : decode cX4_operand 91 = .ok (.iconst 1, 1) := dk_4 (dk_at dksX4_operand_3 22 rfl rfl)
theorem dX4_operand_92 : decode cX4_operand 92 = .ok (.goto 4, 3) := dk_167 0 4 (dk_at dksX4_operand_4 0 rfl rfl)
theorem dX4_operand_95 : decode cX4_operand 95 = .ok (.iconst 0, 1) := dk_3 (dk_at dksX4_operand_4 3 rfl rfl)
theorem dX4_operand_96 : decode cX4_operand 96 = .ok (.istore_n 3, 1) := dk_62 (dk_at dksX4_operand_4 4 rfl rfl)
theorem dX4_operand_97 : decode cX4_operand 97 = .ok (.iload_n 3, 1) := dk_29 (dk_at dksX4_operand_4 5 rfl rfl)
theorem dX4_operand_98 : decode cX4_operand 98 = .ok (.ifCond .eq 19, 3) := dk_153 0 19 (dk_at dksX4_operand_4 6 rfl rfl)
theorem dX4_operand_101 : decode cX4_operand 101 = .ok (.aload_n 0, 1) := dk_42 (dk_at dksX4_operand_4 9 rfl rfl)
theorem dX4_operand_102 : decode cX4_operand 102 = .ok (.bipush 14, 2) := dk_16 14 (dk_at dksX4_operand_4 10 rfl rfl)
theorem dX4_operand_104 : decode cX4_operand 104 = .ok (.invokevirtual 202, 3) := dk_182 0 202 (dk_at dksX4_operand_4 12 rfl rfl)
theorem dX4_operand_107 : decode cX4_operand 107 = .ok (.aload_n 0, 1) := dk_42 (dk_at dksX4_operand_4 15 rfl rfl)
theorem dX4_operand_108 : decode cX4_operand 108 = .ok (.invokevirtual 165, 3) := dk_182 0 165 (dk_at dksX4_operand_4 16 rfl rfl)
theorem dX4_operand_111 : decode cX4_operand 111 = .ok (.aload_n 0, 1) := dk_42 (dk_at dksX4_operand_4 19 rfl rfl)
theorem dX4_operand_112 : decode cX4_operand 112 = .ok (.invokevirtual 205, 3) := dk_182 0 205 (dk_at dksX4_operand_4 20 rfl rfl)
theorem dX4_operand_115 : decode cX4_operand 115 = .ok (.iconst 1, 1) := dk_4 (dk_at dksX4_operand_4 23 rfl rfl)
theorem dX4_operand_116 : decode cX4_operand 116 = .ok (.istore_n 2, 1) := dk_61 (dk_at dksX4_operand_5 0 rfl rfl)
theorem dX4_operand_117 : decode cX4_operand 117 = .ok (.goto (-113), 3) := dk_167 255 143 (dk_at dksX4_operand_5 1 rfl rfl)
theorem dX4_operand_120 : decode cX4_operand 120 = .ok (.aload_n 0, 1) := dk_42 (dk_at dksX4_operand_5 4 rfl rfl)
theorem dX4_operand_121 : decode cX4_operand 121 = .ok (.invokevirtual 208, 3) := dk_182 0 208 (dk_at dksX4_operand_5 5 rfl rfl)
theorem dX4_operand_124 : decode cX4_operand 124 = .ok (.return_, 1) := dk_177 (dk_at dksX4_operand_5 8 rfl rfl)
abbrev cX4_waitsFor : ByteArray := prog_12_method_27_code
def yX4_waitsFor : MethodName := ⟨RX4, "waitsFor", "(I)V"⟩
def dkwX4_waitsFor_0 : List UInt8 := [42, 180, 0, 59, 42, 180, 0, 174, 27, 79, 42, 89, 180, 0, 174, 4, 96, 181, 0, 174, 177]
abbrev dktX4_waitsFor_0 : List UInt8 := dkwX4_waitsFor_0 ++ []
theorem dksX4_waitsFor_0 : cX4_waitsFor.data.toList.drop 0 = dktX4_waitsFor_0 := by decide +kernel
theorem dX4_waitsFor_0 : decode cX4_waitsFor 0 = .ok (.aload_n 0, 1) := dk_42 (dk_at dksX4_waitsFor_0 0 rfl rfl)
theorem dX4_waitsFor_1 : decode cX4_waitsFor 1 = .ok (.getfield 59, 3) := dk_180 0 59 (dk_at dksX4_waitsFor_0 1 rfl rfl)
theorem dX4_waitsFor_4 : decode cX4_waitsFor 4 = .ok (.aload_n 0, 1) := dk_42 (dk_at dksX4_waitsFor_0 4 rfl rfl)
theorem dX4_waitsFor_5 : decode cX4_waitsFor 5 = .ok (.getfield 174, 3) := dk_180 0 174 (dk_at dksX4_waitsFor_0 5 rfl rfl)
theorem dX4_waitsFor_8 : decode cX4_waitsFor 8 = .ok (.iload_n 1, 1) := dk_27 (dk_at dksX4_waitsFor_0 8 rfl rfl)
theorem dX4_waitsFor_9 : decode cX4_waitsFor 9 = .ok (.iastore, 1) := dk_79 (dk_at dksX4_waitsFor_0 9 rfl rfl)
theorem dX4_waitsFor_10 : decode cX4_waitsFor 10 = .ok (.aload_n 0, 1) := dk_42 (dk_at dksX4_waitsFor_0 10 rfl rfl)
theorem dX4_waitsFor_11 : decode cX4_waitsFor 11 = .ok (.dup, 1) := dk_89 (dk_at dksX4_waitsFor_0 11 rfl rfl)
theorem dX4_waitsFor_12 : decode cX4_waitsFor 12 = .ok (.getfield 174, 3) := dk_180 0 174 (dk_at dksX4_waitsFor_0 12 rfl rfl)
theorem dX4_waitsFor_15 : decode cX4_waitsFor 15 = .ok (.iconst 1, 1) := dk_4 (dk_at dksX4_waitsFor_0 15 rfl rfl)
theorem dX4_waitsFor_16 : decode cX4_waitsFor 16 = .ok (.iadd, 1) := dk_96 (dk_at dksX4_waitsFor_0 16 rfl rfl)
theorem dX4_waitsFor_17 : decode cX4_waitsFor 17 = .ok (.putfield 174, 3) := dk_181 0 174 (dk_at dksX4_waitsFor_0 17 rfl rfl)
theorem dX4_waitsFor_20 : decode cX4_waitsFor 20 = .ok (.return_, 1) := dk_177 (dk_at dksX4_waitsFor_0 20 rfl rfl)
abbrev cX4_part : ByteArray := prog_12_method_28_code
def yX4_part : MethodName := ⟨RX4, "part", "()V"⟩
def dkwX4_part_4 : List UInt8 := [42, 4, 182, 0, 168, 42, 182, 0, 161, 153, 0, 7, 42, 182, 0, 165, 177]
abbrev dktX4_part_4 : List UInt8 := dkwX4_part_4 ++ []
def dkwX4_part_3 : List UInt8 := [180, 0, 193, 164, 0, 8, 42, 6, 182, 0, 168, 42, 5, 182, 0, 183, 42, 27, 182, 0, 183, 167, 0, 8]
abbrev dktX4_part_3 : List UInt8 := dkwX4_part_3 ++ dktX4_part_4
def dkwX4_part_2 : List UInt8 := [180, 0, 135, 4, 160, 0, 42, 42, 182, 0, 186, 60, 27, 42, 180, 0, 190, 161, 0, 11, 27, 42]
abbrev dktX4_part_2 : List UInt8 := dkwX4_part_2 ++ dktX4_part_3
def dkwX4_part_1 : List UInt8 := [42, 5, 182, 0, 168, 42, 4, 182, 0, 183, 42, 42, 180, 0, 129, 182, 0, 183, 167, 0, 55, 42]
abbrev dktX4_part_1 : List UInt8 := dkwX4_part_1 ++ dktX4_part_2
def dkwX4_part_0 : List UInt8 := [42, 182, 0, 161, 154, 0, 4, 177, 42, 180, 0, 135, 5, 160, 0, 32, 42, 180, 0, 145, 7, 164, 0, 8]
abbrev dktX4_part_0 : List UInt8 := dkwX4_part_0 ++ dktX4_part_1
theorem dksX4_part_0 : cX4_part.data.toList.drop 0 = dktX4_part_0 := by decide +kernel
theorem dksX4_part_1 : cX4_part.data.toList.drop 24 = dktX4_part_1 := dk_seg dksX4_part_0 24 rfl rfl
theorem dksX4_part_2 : cX4_part.data.toList.drop 46 = dktX4_part_2 := dk_seg dksX4_part_1 22 rfl rfl
theorem dksX4_part_3 : cX4_part.data.toList.drop 68 = dktX4_part_3 := dk_seg dksX4_part_2 22 rfl rfl
theorem dksX4_part_4 : cX4_part.data.toList.drop 92 = dktX4_part_4 := dk_seg dksX4_part_3 24 rfl rfl
theorem dX4_part_0 : decode cX4_part 0 = .ok (.aload_n 0, 1) := dk_42 (dk_at dksX4_part_0 0 rfl rfl)
theorem dX4_part_1 : decode cX4_part 1 = .ok (.invokevirtual 161, 3) := dk_182 0 161 (dk_at dksX4_part_0 1 rfl rfl)
theorem dX4_part_4 : decode cX4_part 4 = .ok (.ifCond .ne 4, 3) := dk_154 0 4 (dk_at dksX4_part_0 4 rfl rfl)
theorem dX4_part_7 : decode cX4_part 7 = .ok (.return_, 1) := dk_177 (dk_at dksX4_part_0 7 rfl rfl)
theorem dX4_part_8 : decode cX4_part 8 = .ok (.aload_n 0, 1) := dk_42 (dk_at dksX4_part_0 8 rfl rfl)
theorem dX4_part_9 : decode cX4_part 9 = .ok (.getfield 135, 3) := dk_180 0 135 (dk_at dksX4_part_0 9 rfl rfl)
theorem dX4_part_12 : decode cX4_part 12 = .ok (.iconst 2, 1) := dk_5 (dk_at dksX4_part_0 12 rfl rfl)
theorem dX4_part_13 : decode cX4_part 13 = .ok (.if_icmp .ne 32, 3) := dk_160 0 32 (dk_at dksX4_part_0 13 rfl rfl)
theorem dX4_part_16 : decode cX4_part 16 = .ok (.aload_n 0, 1) := dk_42 (dk_at dksX4_part_0 16 rfl rfl)
theorem dX4_part_17 : decode cX4_part 17 = .ok (.getfield 145, 3) := dk_180 0 145 (dk_at dksX4_part_0 17 rfl rfl)
theorem dX4_part_20 : decode cX4_part 20 = .ok (.iconst 4, 1) := dk_7 (dk_at dksX4_part_0 20 rfl rfl)
theorem dX4_part_21 : decode cX4_part 21 = .ok (.if_icmp .le 8, 3) := dk_164 0 8 (dk_at dksX4_part_0 21 rfl rfl)
theorem dX4_part_24 : decode cX4_part 24 = .ok (.aload_n 0, 1) := dk_42 (dk_at dksX4_part_1 0 rfl rfl)
theorem dX4_part_25 : decode cX4_part 25 = .ok (.iconst 2, 1) := dk_5 (dk_at dksX4_part_1 1 rfl rfl)
theorem dX4_part_26 : decode cX4_part 26 = .ok (.invokevirtual 168, 3) := dk_182 0 168 (dk_at dksX4_part_1 2 rfl rfl)
theorem dX4_part_29 : decode cX4_part 29 = .ok (.aload_n 0, 1) := dk_42 (dk_at dksX4_part_1 5 rfl rfl)
theorem dX4_part_30 : decode cX4_part 30 = .ok (.iconst 1, 1) := dk_4 (dk_at dksX4_part_1 6 rfl rfl)
theorem dX4_part_31 : decode cX4_part 31 = .ok (.invokevirtual 183, 3) := dk_182 0 183 (dk_at dksX4_part_1 7 rfl rfl)
theorem dX4_part_34 : decode cX4_part 34 = .ok (.aload_n 0, 1) := dk_42 (dk_at dksX4_part_1 10 rfl rfl)
theorem dX4_part_35 : decode cX4_part 35 = .ok (.aload_n 0, 1) := dk_42 (dk_at dksX4_part_1 11 rfl rfl)
theorem dX4_part_36 : decode cX4_part 36 = .ok (.getfield 129, 3) := dk_180 0 129 (dk_at dksX4_part_1 12 rfl rfl)
theorem dX4_part_39 : decode cX4_part 39 = .ok (.invokevirtual 183, 3) := dk_182 0 183 (dk_at dksX4_part_1 15 rfl rfl)
theorem dX4_part_42 : decode cX4_part 42 = .ok (.goto 55, 3) := dk_167 0 55 (dk_at dksX4_part_1 18 rfl rfl)
theorem dX4_part_45 : decode cX4_part 45 = .ok (.aload_n 0, 1) := dk_42 (dk_at dksX4_part_1 21 rfl rfl)
theorem dX4_part_46 : decode cX4_part 46 = .ok (.getfield 135, 3) := dk_180 0 135 (dk_at dksX4_part_2 0 rfl rfl)
theorem dX4_part_49 : decode cX4_part 49 = .ok (.iconst 1, 1) := dk_4 (dk_at dksX4_part_2 3 rfl rfl)
theorem dX4_part_50 : decode cX4_part 50 = .ok (.if_icmp .ne 42, 3) := dk_160 0 42 (dk_at dksX4_part_2 4 rfl rfl)
theorem dX4_part_53 : decode cX4_part 53 = .ok (.aload_n 0, 1) := dk_42 (dk_at dksX4_part_2 7 rfl rfl)
theorem dX4_part_54 : decode cX4_part 54 = .ok (.invokevirtual 186, 3) := dk_182 0 186 (dk_at dksX4_part_2 8 rfl rfl)
theorem dX4_part_57 : decode cX4_part 57 = .ok (.istore_n 1, 1) := dk_60 (dk_at dksX4_part_2 11 rfl rfl)
theorem dX4_part_58 : decode cX4_part 58 = .ok (.iload_n 1, 1) := dk_27 (dk_at dksX4_part_2 12 rfl rfl)
theorem dX4_part_59 : decode cX4_part 59 = .ok (.aload_n 0, 1) := dk_42 (dk_at dksX4_part_2 13 rfl rfl)
theorem dX4_part_60 : decode cX4_part 60 = .ok (.getfield 190, 3) := dk_180 0 190 (dk_at dksX4_part_2 14 rfl rfl)
theorem dX4_part_63 : decode cX4_part 63 = .ok (.if_icmp .lt 11, 3) := dk_161 0 11 (dk_at dksX4_part_2 17 rfl rfl)
theorem dX4_part_66 : decode cX4_part 66 = .ok (.iload_n 1, 1) := dk_27 (dk_at dksX4_part_2 20 rfl rfl)
theorem dX4_part_67 : decode cX4_part 67 = .ok (.aload_n 0, 1) := dk_42 (dk_at dksX4_part_2 21 rfl rfl)
theorem dX4_part_68 : decode cX4_part 68 = .ok (.getfield 193, 3) := dk_180 0 193 (dk_at dksX4_part_3 0 rfl rfl)
theorem dX4_part_71 : decode cX4_part 71 = .ok (.if_icmp .le 8, 3) := dk_164 0 8 (dk_at dksX4_part_3 3 rfl rfl)
theorem dX4_part_74 : decode cX4_part 74 = .ok (.aload_n 0, 1) := dk_42 (dk_at dksX4_part_3 6 rfl rfl)
theorem dX4_part_75 : decode cX4_part 75 = .ok (.iconst 3, 1) := dk_6 (dk_at dksX4_part_3 7 rfl rfl)
theorem dX4_part_76 : decode cX4_part 76 = .ok (.invokevirtual 168, 3) := dk_182 0 168 (dk_at dksX4_part_3 8 rfl rfl)
theorem dX4_part_79 : decode cX4_part 79 = .ok (.aload_n 0, 1) := dk_42 (dk_at dksX4_part_3 11 rfl rfl)
theorem dX4_part_80 : decode cX4_part 80 = .ok (.iconst 2, 1) := dk_5 (dk_at dksX4_part_3 12 rfl rfl)
theorem dX4_part_81 : decode cX4_part 81 = .ok (.invokevirtual 183, 3) := dk_182 0 183 (dk_at dksX4_part_3 13 rfl rfl)
theorem dX4_part_84 : decode cX4_part 84 = .ok (.aload_n 0, 1) := dk_42 (dk_at dksX4_part_3 16 rfl rfl)
theorem dX4_part_85 : decode cX4_part 85 = .ok (.iload_n 1, 1) := dk_27 (dk_at dksX4_part_3 17 rfl rfl)
theorem dX4_part_86 : decode cX4_part 86 = .ok (.invokevirtual 183, 3) := dk_182 0 183 (dk_at dksX4_part_3 18 rfl rfl)
theorem dX4_part_89 : decode cX4_part 89 = .ok (.goto 8, 3) := dk_167 0 8 (dk_at dksX4_part_3 21 rfl rfl)
theorem dX4_part_92 : decode cX4_part 92 = .ok (.aload_n 0, 1) := dk_42 (dk_at dksX4_part_4 0 rfl rfl)
theorem dX4_part_93 : decode cX4_part 93 = .ok (.iconst 1, 1) := dk_4 (dk_at dksX4_part_4 1 rfl rfl)
theorem dX4_part_94 : decode cX4_part 94 = .ok (.invokevirtual 168, 3) := dk_182 0 168 (dk_at dksX4_part_4 2 rfl rfl)
theorem dX4_part_97 : decode cX4_part 97 = .ok (.aload_n 0, 1) := dk_42 (dk_at dksX4_part_4 5 rfl rfl)
theorem dX4_part_98 : decode cX4_part 98 = .ok (.invokevirtual 161, 3) := dk_182 0 161 (dk_at dksX4_part_4 6 rfl rfl)
theorem dX4_part_101 : decode cX4_part 101 = .ok (.ifCond .eq 7, 3) := dk_153 0 7 (dk_at dksX4_part_4 9 rfl rfl)
theorem dX4_part_104 : decode cX4_part 104 = .ok (.aload_n 0, 1) := dk_42 (dk_at dksX4_part_4 12 rfl rfl)
theorem dX4_part_105 : decode cX4_part 105 = .ok (.invokevirtual 165, 3) := dk_182 0 165 (dk_at dksX4_part_4 13 rfl rfl)
theorem dX4_part_108 : decode cX4_part 108 = .ok (.return_, 1) := dk_177 (dk_at dksX4_part_4 16 rfl rfl)
abbrev cX4_puts : ByteArray := prog_12_method_23_code
def yX4_puts : MethodName := ⟨RX4, "puts", "(I)V"⟩
def dkwX4_puts_0 : List UInt8 := [42, 180, 0, 56, 42, 180, 0, 171, 27, 79, 42, 89, 180, 0, 171, 4, 96, 181, 0, 171, 177]
abbrev dktX4_puts_0 : List UInt8 := dkwX4_puts_0 ++ []
theorem dksX4_puts_0 : cX4_puts.data.toList.drop 0 = dktX4_puts_0 := by decide +kernel
theorem dX4_puts_0 : decode cX4_puts 0 = .ok (.aload_n 0, 1) := dk_42 (dk_at dksX4_puts_0 0 rfl rfl)
theorem dX4_puts_1 : decode cX4_puts 1 = .ok (.getfield 56, 3) := dk_180 0 56 (dk_at dksX4_puts_0 1 rfl rfl)
theorem dX4_puts_4 : decode cX4_puts 4 = .ok (.aload_n 0, 1) := dk_42 (dk_at dksX4_puts_0 4 rfl rfl)
theorem dX4_puts_5 : decode cX4_puts 5 = .ok (.getfield 171, 3) := dk_180 0 171 (dk_at dksX4_puts_0 5 rfl rfl)
theorem dX4_puts_8 : decode cX4_puts 8 = .ok (.iload_n 1, 1) := dk_27 (dk_at dksX4_puts_0 8 rfl rfl)
theorem dX4_puts_9 : decode cX4_puts 9 = .ok (.iastore, 1) := dk_79 (dk_at dksX4_puts_0 9 rfl rfl)
theorem dX4_puts_10 : decode cX4_puts 10 = .ok (.aload_n 0, 1) := dk_42 (dk_at dksX4_puts_0 10 rfl rfl)
theorem dX4_puts_11 : decode cX4_puts 11 = .ok (.dup, 1) := dk_89 (dk_at dksX4_puts_0 11 rfl rfl)
theorem dX4_puts_12 : decode cX4_puts 12 = .ok (.getfield 171, 3) := dk_180 0 171 (dk_at dksX4_puts_0 12 rfl rfl)
theorem dX4_puts_15 : decode cX4_puts 15 = .ok (.iconst 1, 1) := dk_4 (dk_at dksX4_puts_0 15 rfl rfl)
theorem dX4_puts_16 : decode cX4_puts 16 = .ok (.iadd, 1) := dk_96 (dk_at dksX4_puts_0 16 rfl rfl)
theorem dX4_puts_17 : decode cX4_puts 17 = .ok (.putfield 171, 3) := dk_181 0 171 (dk_at dksX4_puts_0 17 rfl rfl)
theorem dX4_puts_20 : decode cX4_puts 20 = .ok (.return_, 1) := dk_177 (dk_at dksX4_puts_0 20 rfl rfl)
abbrev cX4_drops : ByteArray := prog_12_method_26_code
def yX4_drops : MethodName := ⟨RX4, "drops", "(I)V"⟩
def dkwX4_drops_2 : List UInt8 := [100, 181, 0, 174, 42, 42, 180, 0, 59, 42, 180, 0, 174, 46, 182, 0, 183, 167, 255, 191, 177]
abbrev dktX4_drops_2 : List UInt8 := dkwX4_drops_2 ++ []
def dkwX4_drops_1 : List UInt8 := [42, 180, 0, 59, 42, 180, 0, 174, 4, 100, 46, 184, 0, 180, 27, 161, 0, 29, 42, 89, 180, 0, 174, 4]
abbrev dktX4_drops_1 : List UInt8 := dkwX4_drops_1 ++ dktX4_drops_2
def dkwX4_drops_0 : List UInt8 := [42, 180, 0, 174, 158, 0, 64, 42, 180, 0, 59, 42, 180, 0, 174, 4, 100, 46, 184, 0, 177, 154, 0, 47]
abbrev dktX4_drops_0 : List UInt8 := dkwX4_drops_0 ++ dktX4_drops_1
theorem dksX4_drops_0 : cX4_drops.data.toList.drop 0 = dktX4_drops_0 := by decide +kernel
theorem dksX4_drops_1 : cX4_drops.data.toList.drop 24 = dktX4_drops_1 := dk_seg dksX4_drops_0 24 rfl rfl
theorem dksX4_drops_2 : cX4_drops.data.toList.drop 48 = dktX4_drops_2 := dk_seg dksX4_drops_1 24 rfl rfl
theorem dX4_drops_0 : decode cX4_drops 0 = .ok (.aload_n 0, 1) := dk_42 (dk_at dksX4_drops_0 0 rfl rfl)
theorem dX4_drops_1 : decode cX4_drops 1 = .ok (.getfield 174, 3) := dk_180 0 174 (dk_at dksX4_drops_0 1 rfl rfl)
theorem dX4_drops_4 : decode cX4_drops 4 = .ok (.ifCond .le 64, 3) := dk_158 0 64 (dk_at dksX4_drops_0 4 rfl rfl)
theorem dX4_drops_7 : decode cX4_drops 7 = .ok (.aload_n 0, 1) := dk_42 (dk_at dksX4_drops_0 7 rfl rfl)
theorem dX4_drops_8 : decode cX4_drops 8 = .ok (.getfield 59, 3) := dk_180 0 59 (dk_at dksX4_drops_0 8 rfl rfl)
theorem dX4_drops_11 : decode cX4_drops 11 = .ok (.aload_n 0, 1) := dk_42 (dk_at dksX4_drops_0 11 rfl rfl)
theorem dX4_drops_12 : decode cX4_drops 12 = .ok (.getfield 174, 3) := dk_180 0 174 (dk_at dksX4_drops_0 12 rfl rfl)
theorem dX4_drops_15 : decode cX4_drops 15 = .ok (.iconst 1, 1) := dk_4 (dk_at dksX4_drops_0 15 rfl rfl)
theorem dX4_drops_16 : decode cX4_drops 16 = .ok (.isub, 1) := dk_100 (dk_at dksX4_drops_0 16 rfl rfl)
theorem dX4_drops_17 : decode cX4_drops 17 = .ok (.iaload, 1) := dk_46 (dk_at dksX4_drops_0 17 rfl rfl)
theorem dX4_drops_18 : decode cX4_drops 18 = .ok (.invokestatic 177, 3) := dk_184 0 177 (dk_at dksX4_drops_0 18 rfl rfl)
theorem dX4_drops_21 : decode cX4_drops 21 = .ok (.ifCond .ne 47, 3) := dk_154 0 47 (dk_at dksX4_drops_0 21 rfl rfl)
theorem dX4_drops_24 : decode cX4_drops 24 = .ok (.aload_n 0, 1) := dk_42 (dk_at dksX4_drops_1 0 rfl rfl)
theorem dX4_drops_25 : decode cX4_drops 25 = .ok (.getfield 59, 3) := dk_180 0 59 (dk_at dksX4_drops_1 1 rfl rfl)
theorem dX4_drops_28 : decode cX4_drops 28 = .ok (.aload_n 0, 1) := dk_42 (dk_at dksX4_drops_1 4 rfl rfl)
theorem dX4_drops_29 : decode cX4_drops 29 = .ok (.getfield 174, 3) := dk_180 0 174 (dk_at dksX4_drops_1 5 rfl rfl)
theorem dX4_drops_32 : decode cX4_drops 32 = .ok (.iconst 1, 1) := dk_4 (dk_at dksX4_drops_1 8 rfl rfl)
theorem dX4_drops_33 : decode cX4_drops 33 = .ok (.isub, 1) := dk_100 (dk_at dksX4_drops_1 9 rfl rfl)
theorem dX4_drops_34 : decode cX4_drops 34 = .ok (.iaload, 1) := dk_46 (dk_at dksX4_drops_1 10 rfl rfl)
theorem dX4_drops_35 : decode cX4_drops 35 = .ok (.invokestatic 180, 3) := dk_184 0 180 (dk_at dksX4_drops_1 11 rfl rfl)
theorem dX4_drops_38 : decode cX4_drops 38 = .ok (.iload_n 1, 1) := dk_27 (dk_at dksX4_drops_1 14 rfl rfl)
theorem dX4_drops_39 : decode cX4_drops 39 = .ok (.if_icmp .lt 29, 3) := dk_161 0 29 (dk_at dksX4_drops_1 15 rfl rfl)
theorem dX4_drops_42 : decode cX4_drops 42 = .ok (.aload_n 0, 1) := dk_42 (dk_at dksX4_drops_1 18 rfl rfl)
theorem dX4_drops_43 : decode cX4_drops 43 = .ok (.dup, 1) := dk_89 (dk_at dksX4_drops_1 19 rfl rfl)
theorem dX4_drops_44 : decode cX4_drops 44 = .ok (.getfield 174, 3) := dk_180 0 174 (dk_at dksX4_drops_1 20 rfl rfl)
theorem dX4_drops_47 : decode cX4_drops 47 = .ok (.iconst 1, 1) := dk_4 (dk_at dksX4_drops_1 23 rfl rfl)
theorem dX4_drops_48 : decode cX4_drops 48 = .ok (.isub, 1) := dk_100 (dk_at dksX4_drops_2 0 rfl rfl)
theorem dX4_drops_49 : decode cX4_drops 49 = .ok (.putfield 174, 3) := dk_181 0 174 (dk_at dksX4_drops_2 1 rfl rfl)
theorem dX4_drops_52 : decode cX4_drops 52 = .ok (.aload_n 0, 1) := dk_42 (dk_at dksX4_drops_2 4 rfl rfl)
theorem dX4_drops_53 : decode cX4_drops 53 = .ok (.aload_n 0, 1) := dk_42 (dk_at dksX4_drops_2 5 rfl rfl)
theorem dX4_drops_54 : decode cX4_drops 54 = .ok (.getfield 59, 3) := dk_180 0 59 (dk_at dksX4_drops_2 6 rfl rfl)
theorem dX4_drops_57 : decode cX4_drops 57 = .ok (.aload_n 0, 1) := dk_42 (dk_at dksX4_drops_2 9 rfl rfl)
theorem dX4_drops_58 : decode cX4_drops 58 = .ok (.getfield 174, 3) := dk_180 0 174 (dk_at dksX4_drops_2 10 rfl rfl)
theorem dX4_drops_61 : decode cX4_drops 61 = .ok (.iaload, 1) := dk_46 (dk_at dksX4_drops_2 13 rfl rfl)
theorem dX4_drops_62 : decode cX4_drops 62 = .ok (.invokevirtual 183, 3) := dk_182 0 183 (dk_at dksX4_drops_2 14 rfl rfl)
theorem dX4_drops_65 : decode cX4_drops 65 = .ok (.goto (-65), 3) := dk_167 255 191 (dk_at dksX4_drops_2 17 rfl rfl)
theorem dX4_drops_68 : decode cX4_drops 68 = .ok (.return_, 1) := dk_177 (dk_at dksX4_drops_2 20 rfl rfl)
abbrev cX4_isOpen : ByteArray := prog_12_method_24_code
def yX4_isOpen : MethodName := ⟨RX4, "isOpen", "(I)Z"⟩
def dkwX4_isOpen_0 : List UInt8 := [26, 16, 14, 161, 0, 7, 4, 167, 0, 4, 3, 172]
abbrev dktX4_isOpen_0 : List UInt8 := dkwX4_isOpen_0 ++ []
theorem dksX4_isOpen_0 : cX4_isOpen.data.toList.drop 0 = dktX4_isOpen_0 := by decide +kernel
theorem dX4_isOpen_0 : decode cX4_isOpen 0 = .ok (.iload_n 0, 1) := dk_26 (dk_at dksX4_isOpen_0 0 rfl rfl)
theorem dX4_isOpen_1 : decode cX4_isOpen 1 = .ok (.bipush 14, 2) := dk_16 14 (dk_at dksX4_isOpen_0 1 rfl rfl)
theorem dX4_isOpen_3 : decode cX4_isOpen 3 = .ok (.if_icmp .lt 7, 3) := dk_161 0 7 (dk_at dksX4_isOpen_0 3 rfl rfl)
theorem dX4_isOpen_6 : decode cX4_isOpen 6 = .ok (.iconst 1, 1) := dk_4 (dk_at dksX4_isOpen_0 6 rfl rfl)
theorem dX4_isOpen_7 : decode cX4_isOpen 7 = .ok (.goto 4, 3) := dk_167 0 4 (dk_at dksX4_isOpen_0 7 rfl rfl)
theorem dX4_isOpen_10 : decode cX4_isOpen 10 = .ok (.iconst 0, 1) := dk_3 (dk_at dksX4_isOpen_0 10 rfl rfl)
theorem dX4_isOpen_11 : decode cX4_isOpen 11 = .ok (.ireturn, 1) := dk_172 (dk_at dksX4_isOpen_0 11 rfl rfl)
abbrev cX4_strength : ByteArray := prog_12_method_25_code
def yX4_strength : MethodName := ⟨RX4, "strength", "(I)I"⟩
def dkwX4_strength_2 : List UInt8 := [159, 0, 9, 26, 16, 9, 160, 0, 7, 8, 167, 0, 5, 16, 6, 172]
abbrev dktX4_strength_2 : List UInt8 := dkwX4_strength_2 ++ []
def dkwX4_strength_1 : List UInt8 := [167, 0, 37, 26, 16, 6, 159, 0, 9, 26, 16, 7, 160, 0, 7, 7, 167, 0, 21, 26, 16, 8]
abbrev dktX4_strength_1 : List UInt8 := dkwX4_strength_1 ++ dktX4_strength_2
def dkwX4_strength_0 : List UInt8 := [26, 8, 160, 0, 7, 4, 167, 0, 55, 26, 7, 160, 0, 7, 5, 167, 0, 46, 26, 6, 160, 0, 7, 6]
abbrev dktX4_strength_0 : List UInt8 := dkwX4_strength_0 ++ dktX4_strength_1
theorem dksX4_strength_0 : cX4_strength.data.toList.drop 0 = dktX4_strength_0 := by decide +kernel
theorem dksX4_strength_1 : cX4_strength.data.toList.drop 24 = dktX4_strength_1 := dk_seg dksX4_strength_0 24 rfl rfl
theorem dksX4_strength_2 : cX4_strength.data.toList.drop 46 = dktX4_strength_2 := dk_seg dksX4_strength_1 22 rfl rfl
theorem dX4_strength_0 : decode cX4_strength 0 = .ok (.iload_n 0, 1) := dk_26 (dk_at dksX4_strength_0 0 rfl rfl)
theorem dX4_strength_1 : decode cX4_strength 1 = .ok (.iconst 5, 1) := dk_8 (dk_at dksX4_strength_0 1 rfl rfl)
theorem dX4_strength_2 : decode cX4_strength 2 = .ok (.if_icmp .ne 7, 3) := dk_160 0 7 (dk_at dksX4_strength_0 2 rfl rfl)
theorem dX4_strength_5 : decode cX4_strength 5 = .ok (.iconst 1, 1) := dk_4 (dk_at dksX4_strength_0 5 rfl rfl)
theorem dX4_strength_6 : decode cX4_strength 6 = .ok (.goto 55, 3) := dk_167 0 55 (dk_at dksX4_strength_0 6 rfl rfl)
theorem dX4_strength_9 : decode cX4_strength 9 = .ok (.iload_n 0, 1) := dk_26 (dk_at dksX4_strength_0 9 rfl rfl)
theorem dX4_strength_10 : decode cX4_strength 10 = .ok (.iconst 4, 1) := dk_7 (dk_at dksX4_strength_0 10 rfl rfl)
theorem dX4_strength_11 : decode cX4_strength 11 = .ok (.if_icmp .ne 7, 3) := dk_160 0 7 (dk_at dksX4_strength_0 11 rfl rfl)
theorem dX4_strength_14 : decode cX4_strength 14 = .ok (.iconst 2, 1) := dk_5 (dk_at dksX4_strength_0 14 rfl rfl)
theorem dX4_strength_15 : decode cX4_strength 15 = .ok (.goto 46, 3) := dk_167 0 46 (dk_at dksX4_strength_0 15 rfl rfl)
theorem dX4_strength_18 : decode cX4_strength 18 = .ok (.iload_n 0, 1) := dk_26 (dk_at dksX4_strength_0 18 rfl rfl)
theorem dX4_strength_19 : decode cX4_strength 19 = .ok (.iconst 3, 1) := dk_6 (dk_at dksX4_strength_0 19 rfl rfl)
theorem dX4_strength_20 : decode cX4_strength 20 = .ok (.if_icmp .ne 7, 3) := dk_160 0 7 (dk_at dksX4_strength_0 20 rfl rfl)
theorem dX4_strength_23 : decode cX4_strength 23 = .ok (.iconst 3, 1) := dk_6 (dk_at dksX4_strength_0 23 rfl rfl)
theorem dX4_strength_24 : decode cX4_strength 24 = .ok (.goto 37, 3) := dk_167 0 37 (dk_at dksX4_strength_1 0 rfl rfl)
theorem dX4_strength_27 : decode cX4_strength 27 = .ok (.iload_n 0, 1) := dk_26 (dk_at dksX4_strength_1 3 rfl rfl)
theorem dX4_strength_28 : decode cX4_strength 28 = .ok (.bipush 6, 2) := dk_16 6 (dk_at dksX4_strength_1 4 rfl rfl)
theorem dX4_strength_30 : decode cX4_strength 30 = .ok (.if_icmp .eq 9, 3) := dk_159 0 9 (dk_at dksX4_strength_1 6 rfl rfl)
theorem dX4_strength_33 : decode cX4_strength 33 = .ok (.iload_n 0, 1) := dk_26 (dk_at dksX4_strength_1 9 rfl rfl)
theorem dX4_strength_34 : decode cX4_strength 34 = .ok (.bipush 7, 2) := dk_16 7 (dk_at dksX4_strength_1 10 rfl rfl)
theorem dX4_strength_36 : decode cX4_strength 36 = .ok (.if_icmp .ne 7, 3) := dk_160 0 7 (dk_at dksX4_strength_1 12 rfl rfl)
theorem dX4_strength_39 : decode cX4_strength 39 = .ok (.iconst 4, 1) := dk_7 (dk_at dksX4_strength_1 15 rfl rfl)
theorem dX4_strength_40 : decode cX4_strength 40 = .ok (.goto 21, 3) := dk_167 0 21 (dk_at dksX4_strength_1 16 rfl rfl)
theorem dX4_strength_43 : decode cX4_strength 43 = .ok (.iload_n 0, 1) := dk_26 (dk_at dksX4_strength_1 19 rfl rfl)
theorem dX4_strength_44 : decode cX4_strength 44 = .ok (.bipush 8, 2) := dk_16 8 (dk_at dksX4_strength_1 20 rfl rfl)
theorem dX4_strength_46 : decode cX4_strength 46 = .ok (.if_icmp .eq 9, 3) := dk_159 0 9 (dk_at dksX4_strength_2 0 rfl rfl)
theorem dX4_strength_49 : decode cX4_strength 49 = .ok (.iload_n 0, 1) := dk_26 (dk_at dksX4_strength_2 3 rfl rfl)
theorem dX4_strength_50 : decode cX4_strength 50 = .ok (.bipush 9, 2) := dk_16 9 (dk_at dksX4_strength_2 4 rfl rfl)
theorem dX4_strength_52 : decode cX4_strength 52 = .ok (.if_icmp .ne 7, 3) := dk_160 0 7 (dk_at dksX4_strength_2 6 rfl rfl)
theorem dX4_strength_55 : decode cX4_strength 55 = .ok (.iconst 5, 1) := dk_8 (dk_at dksX4_strength_2 9 rfl rfl)
theorem dX4_strength_56 : decode cX4_strength 56 = .ok (.goto 5, 3) := dk_167 0 5 (dk_at dksX4_strength_2 10 rfl rfl)
theorem dX4_strength_59 : decode cX4_strength 59 = .ok (.bipush 6, 2) := dk_16 6 (dk_at dksX4_strength_2 13 rfl rfl)
theorem dX4_strength_61 : decode cX4_strength 61 = .ok (.ireturn, 1) := dk_172 (dk_at dksX4_strength_2 15 rfl rfl)
abbrev cX4_isOpened : ByteArray := prog_12_method_31_code
def yX4_isOpened : MethodName := ⟨RX4, "isOpened", "()Z"⟩
def dkwX4_isOpened_1 : List UInt8 := [132, 1, 255, 167, 255, 237, 27, 155, 0, 7, 4, 167, 0, 4, 3, 172]
abbrev dktX4_isOpened_1 : List UInt8 := dkwX4_isOpened_1 ++ []
def dkwX4_isOpened_0 : List UInt8 := [42, 180, 0, 174, 4, 100, 60, 27, 155, 0, 21, 42, 180, 0, 59, 27, 46, 184, 0, 177, 154, 0, 9]
abbrev dktX4_isOpened_0 : List UInt8 := dkwX4_isOpened_0 ++ dktX4_isOpened_1
theorem dksX4_isOpened_0 : cX4_isOpened.data.toList.drop 0 = dktX4_isOpened_0 := by decide +kernel
theorem dksX4_isOpened_1 : cX4_isOpened.data.toList.drop 23 = dktX4_isOpened_1 := dk_seg dksX4_isOpened_0 23 rfl rfl
theorem dX4_isOpened_0 : decode cX4_isOpened 0 = .ok (.aload_n 0, 1) := dk_42 (dk_at dksX4_isOpened_0 0 rfl rfl)
theorem dX4_isOpened_1 : decode cX4_isOpened 1 = .ok (.getfield 174, 3) := dk_180 0 174 (dk_at dksX4_isOpened_0 1 rfl rfl)
theorem dX4_isOpened_4 : decode cX4_isOpened 4 = .ok (.iconst 1, 1) := dk_4 (dk_at dksX4_isOpened_0 4 rfl rfl)
theorem dX4_isOpened_5 : decode cX4_isOpened 5 = .ok (.isub, 1) := dk_100 (dk_at dksX4_isOpened_0 5 rfl rfl)
theorem dX4_isOpened_6 : decode cX4_isOpened 6 = .ok (.istore_n 1, 1) := dk_60 (dk_at dksX4_isOpened_0 6 rfl rfl)
theorem dX4_isOpened_7 : decode cX4_isOpened 7 = .ok (.iload_n 1, 1) := dk_27 (dk_at dksX4_isOpened_0 7 rfl rfl)
theorem dX4_isOpened_8 : decode cX4_isOpened 8 = .ok (.ifCond .lt 21, 3) := dk_155 0 21 (dk_at dksX4_isOpened_0 8 rfl rfl)
theorem dX4_isOpened_11 : decode cX4_isOpened 11 = .ok (.aload_n 0, 1) := dk_42 (dk_at dksX4_isOpened_0 11 rfl rfl)
theorem dX4_isOpened_12 : decode cX4_isOpened 12 = .ok (.getfield 59, 3) := dk_180 0 59 (dk_at dksX4_isOpened_0 12 rfl rfl)
theorem dX4_isOpened_15 : decode cX4_isOpened 15 = .ok (.iload_n 1, 1) := dk_27 (dk_at dksX4_isOpened_0 15 rfl rfl)
theorem dX4_isOpened_16 : decode cX4_isOpened 16 = .ok (.iaload, 1) := dk_46 (dk_at dksX4_isOpened_0 16 rfl rfl)
theorem dX4_isOpened_17 : decode cX4_isOpened 17 = .ok (.invokestatic 177, 3) := dk_184 0 177 (dk_at dksX4_isOpened_0 17 rfl rfl)
theorem dX4_isOpened_20 : decode cX4_isOpened 20 = .ok (.ifCond .ne 9, 3) := dk_154 0 9 (dk_at dksX4_isOpened_0 20 rfl rfl)
theorem dX4_isOpened_23 : decode cX4_isOpened 23 = .ok (.iinc 1 (-1), 3) := dk_132 1 255 (dk_at dksX4_isOpened_1 0 rfl rfl)
theorem dX4_isOpened_26 : decode cX4_isOpened 26 = .ok (.goto (-19), 3) := dk_167 255 237 (dk_at dksX4_isOpened_1 3 rfl rfl)
theorem dX4_isOpened_29 : decode cX4_isOpened 29 = .ok (.iload_n 1, 1) := dk_27 (dk_at dksX4_isOpened_1 6 rfl rfl)
theorem dX4_isOpened_30 : decode cX4_isOpened 30 = .ok (.ifCond .lt 7, 3) := dk_155 0 7 (dk_at dksX4_isOpened_1 7 rfl rfl)
theorem dX4_isOpened_33 : decode cX4_isOpened 33 = .ok (.iconst 1, 1) := dk_4 (dk_at dksX4_isOpened_1 10 rfl rfl)
theorem dX4_isOpened_34 : decode cX4_isOpened 34 = .ok (.goto 4, 3) := dk_167 0 4 (dk_at dksX4_isOpened_1 11 rfl rfl)
theorem dX4_isOpened_37 : decode cX4_isOpened 37 = .ok (.iconst 0, 1) := dk_3 (dk_at dksX4_isOpened_1 14 rfl rfl)
theorem dX4_isOpened_38 : decode cX4_isOpened 38 = .ok (.ireturn, 1) := dk_172 (dk_at dksX4_isOpened_1 15 rfl rfl)
abbrev cX4_closes : ByteArray := prog_12_method_32_code
def yX4_closes : MethodName := ⟨RX4, "closes", "()V"⟩
def dkwX4_closes_1 : List UInt8 := [181, 0, 196, 42, 182, 0, 165, 177]
abbrev dktX4_closes_1 : List UInt8 := dkwX4_closes_1 ++ []
def dkwX4_closes_0 : List UInt8 := [42, 3, 182, 0, 211, 42, 89, 180, 0, 174, 4, 100, 181, 0, 174, 42, 89, 180, 0, 196, 4, 100]
abbrev dktX4_closes_0 : List UInt8 := dkwX4_closes_0 ++ dktX4_closes_1
theorem dksX4_closes_0 : cX4_closes.data.toList.drop 0 = dktX4_closes_0 := by decide +kernel
theorem dksX4_closes_1 : cX4_closes.data.toList.drop 22 = dktX4_closes_1 := dk_seg dksX4_closes_0 22 rfl rfl
theorem dX4_closes_0 : decode cX4_closes 0 = .ok (.aload_n 0, 1) := dk_42 (dk_at dksX4_closes_0 0 rfl rfl)
theorem dX4_closes_1 : decode cX4_closes 1 = .ok (.iconst 0, 1) := dk_3 (dk_at dksX4_closes_0 1 rfl rfl)
theorem dX4_closes_2 : decode cX4_closes 2 = .ok (.invokevirtual 211, 3) := dk_182 0 211 (dk_at dksX4_closes_0 2 rfl rfl)
theorem dX4_closes_5 : decode cX4_closes 5 = .ok (.aload_n 0, 1) := dk_42 (dk_at dksX4_closes_0 5 rfl rfl)
theorem dX4_closes_6 : decode cX4_closes 6 = .ok (.dup, 1) := dk_89 (dk_at dksX4_closes_0 6 rfl rfl)
theorem dX4_closes_7 : decode cX4_closes 7 = .ok (.getfield 174, 3) := dk_180 0 174 (dk_at dksX4_closes_0 7 rfl rfl)
theorem dX4_closes_10 : decode cX4_closes 10 = .ok (.iconst 1, 1) := dk_4 (dk_at dksX4_closes_0 10 rfl rfl)
theorem dX4_closes_11 : decode cX4_closes 11 = .ok (.isub, 1) := dk_100 (dk_at dksX4_closes_0 11 rfl rfl)
theorem dX4_closes_12 : decode cX4_closes 12 = .ok (.putfield 174, 3) := dk_181 0 174 (dk_at dksX4_closes_0 12 rfl rfl)
theorem dX4_closes_15 : decode cX4_closes 15 = .ok (.aload_n 0, 1) := dk_42 (dk_at dksX4_closes_0 15 rfl rfl)
theorem dX4_closes_16 : decode cX4_closes 16 = .ok (.dup, 1) := dk_89 (dk_at dksX4_closes_0 16 rfl rfl)
theorem dX4_closes_17 : decode cX4_closes 17 = .ok (.getfield 196, 3) := dk_180 0 196 (dk_at dksX4_closes_0 17 rfl rfl)
theorem dX4_closes_20 : decode cX4_closes 20 = .ok (.iconst 1, 1) := dk_4 (dk_at dksX4_closes_0 20 rfl rfl)
theorem dX4_closes_21 : decode cX4_closes 21 = .ok (.isub, 1) := dk_100 (dk_at dksX4_closes_0 21 rfl rfl)
theorem dX4_closes_22 : decode cX4_closes 22 = .ok (.putfield 196, 3) := dk_181 0 196 (dk_at dksX4_closes_1 0 rfl rfl)
theorem dX4_closes_25 : decode cX4_closes 25 = .ok (.aload_n 0, 1) := dk_42 (dk_at dksX4_closes_1 3 rfl rfl)
theorem dX4_closes_26 : decode cX4_closes 26 = .ok (.invokevirtual 165, 3) := dk_182 0 165 (dk_at dksX4_closes_1 4 rfl rfl)
theorem dX4_closes_29 : decode cX4_closes 29 = .ok (.return_, 1) := dk_177 (dk_at dksX4_closes_1 7 rfl rfl)
abbrev cX4_need : ByteArray := prog_12_method_20_code
def yX4_need : MethodName := ⟨RX4, "need", "(Z)V"⟩
def dkwX4_need_1 : List UInt8 := [177]
abbrev dktX4_need_1 : List UInt8 := dkwX4_need_1 ++ []
def dkwX4_need_0 : List UInt8 := [42, 182, 0, 161, 154, 0, 4, 177, 27, 153, 0, 10, 42, 182, 0, 165, 167, 0, 8, 42, 4, 182, 0, 168]
abbrev dktX4_need_0 : List UInt8 := dkwX4_need_0 ++ dktX4_need_1
theorem dksX4_need_0 : cX4_need.data.toList.drop 0 = dktX4_need_0 := by decide +kernel
theorem dksX4_need_1 : cX4_need.data.toList.drop 24 = dktX4_need_1 := dk_seg dksX4_need_0 24 rfl rfl
theorem dX4_need_0 : decode cX4_need 0 = .ok (.aload_n 0, 1) := dk_42 (dk_at dksX4_need_0 0 rfl rfl)
theorem dX4_need_1 : decode cX4_need 1 = .ok (.invokevirtual 161, 3) := dk_182 0 161 (dk_at dksX4_need_0 1 rfl rfl)
theorem dX4_need_4 : decode cX4_need 4 = .ok (.ifCond .ne 4, 3) := dk_154 0 4 (dk_at dksX4_need_0 4 rfl rfl)
theorem dX4_need_7 : decode cX4_need 7 = .ok (.return_, 1) := dk_177 (dk_at dksX4_need_0 7 rfl rfl)
theorem dX4_need_8 : decode cX4_need 8 = .ok (.iload_n 1, 1) := dk_27 (dk_at dksX4_need_0 8 rfl rfl)
theorem dX4_need_9 : decode cX4_need 9 = .ok (.ifCond .eq 10, 3) := dk_153 0 10 (dk_at dksX4_need_0 9 rfl rfl)
theorem dX4_need_12 : decode cX4_need 12 = .ok (.aload_n 0, 1) := dk_42 (dk_at dksX4_need_0 12 rfl rfl)
theorem dX4_need_13 : decode cX4_need 13 = .ok (.invokevirtual 165, 3) := dk_182 0 165 (dk_at dksX4_need_0 13 rfl rfl)
theorem dX4_need_16 : decode cX4_need 16 = .ok (.goto 8, 3) := dk_167 0 8 (dk_at dksX4_need_0 16 rfl rfl)
theorem dX4_need_19 : decode cX4_need 19 = .ok (.aload_n 0, 1) := dk_42 (dk_at dksX4_need_0 19 rfl rfl)
theorem dX4_need_20 : decode cX4_need 20 = .ok (.iconst 1, 1) := dk_4 (dk_at dksX4_need_0 20 rfl rfl)
theorem dX4_need_21 : decode cX4_need 21 = .ok (.invokevirtual 168, 3) := dk_182 0 168 (dk_at dksX4_need_0 21 rfl rfl)
theorem dX4_need_24 : decode cX4_need 24 = .ok (.return_, 1) := dk_177 (dk_at dksX4_need_1 0 rfl rfl)
abbrev cX4_copies : ByteArray := prog_12_method_6_code
def yX4_copies : MethodName := ⟨RX4, "copies", "([I[I)V"⟩
def dkwX4_copies_0 : List UInt8 := [3, 62, 29, 43, 190, 162, 0, 15, 44, 29, 43, 29, 46, 79, 132, 3, 1, 167, 255, 241, 177]
abbrev dktX4_copies_0 : List UInt8 := dkwX4_copies_0 ++ []
theorem dksX4_copies_0 : cX4_copies.data.toList.drop 0 = dktX4_copies_0 := by decide +kernel
theorem dX4_copies_0 : decode cX4_copies 0 = .ok (.iconst 0, 1) := dk_3 (dk_at dksX4_copies_0 0 rfl rfl)
theorem dX4_copies_1 : decode cX4_copies 1 = .ok (.istore_n 3, 1) := dk_62 (dk_at dksX4_copies_0 1 rfl rfl)
theorem dX4_copies_2 : decode cX4_copies 2 = .ok (.iload_n 3, 1) := dk_29 (dk_at dksX4_copies_0 2 rfl rfl)
theorem dX4_copies_3 : decode cX4_copies 3 = .ok (.aload_n 1, 1) := dk_43 (dk_at dksX4_copies_0 3 rfl rfl)
theorem dX4_copies_4 : decode cX4_copies 4 = .ok (.arraylength, 1) := dk_190 (dk_at dksX4_copies_0 4 rfl rfl)
theorem dX4_copies_5 : decode cX4_copies 5 = .ok (.if_icmp .ge 15, 3) := dk_162 0 15 (dk_at dksX4_copies_0 5 rfl rfl)
theorem dX4_copies_8 : decode cX4_copies 8 = .ok (.aload_n 2, 1) := dk_44 (dk_at dksX4_copies_0 8 rfl rfl)
theorem dX4_copies_9 : decode cX4_copies 9 = .ok (.iload_n 3, 1) := dk_29 (dk_at dksX4_copies_0 9 rfl rfl)
theorem dX4_copies_10 : decode cX4_copies 10 = .ok (.aload_n 1, 1) := dk_43 (dk_at dksX4_copies_0 10 rfl rfl)
theorem dX4_copies_11 : decode cX4_copies 11 = .ok (.iload_n 3, 1) := dk_29 (dk_at dksX4_copies_0 11 rfl rfl)
theorem dX4_copies_12 : decode cX4_copies 12 = .ok (.iaload, 1) := dk_46 (dk_at dksX4_copies_0 12 rfl rfl)
theorem dX4_copies_13 : decode cX4_copies 13 = .ok (.iastore, 1) := dk_79 (dk_at dksX4_copies_0 13 rfl rfl)
theorem dX4_copies_14 : decode cX4_copies 14 = .ok (.iinc 3 1, 3) := dk_132 3 1 (dk_at dksX4_copies_0 14 rfl rfl)
theorem dX4_copies_17 : decode cX4_copies 17 = .ok (.goto (-15), 3) := dk_167 255 241 (dk_at dksX4_copies_0 17 rfl rfl)
theorem dX4_copies_20 : decode cX4_copies 20 = .ok (.return_, 1) := dk_177 (dk_at dksX4_copies_0 20 rfl rfl)
abbrev cX4_fault : ByteArray := prog_12_method_41_code
def yX4_fault : MethodName := ⟨RX4, "fault", "()I"⟩
def dkwX4_fault_0 : List UInt8 := [42, 3, 181, 0, 102, 42, 180, 0, 35, 172]
abbrev dktX4_fault_0 : List UInt8 := dkwX4_fault_0 ++ []
theorem dksX4_fault_0 : cX4_fault.data.toList.drop 0 = dktX4_fault_0 := by decide +kernel
theorem dX4_fault_0 : decode cX4_fault 0 = .ok (.aload_n 0, 1) := dk_42 (dk_at dksX4_fault_0 0 rfl rfl)
theorem dX4_fault_1 : decode cX4_fault 1 = .ok (.iconst 0, 1) := dk_3 (dk_at dksX4_fault_0 1 rfl rfl)
theorem dX4_fault_2 : decode cX4_fault 2 = .ok (.putfield 102, 3) := dk_181 0 102 (dk_at dksX4_fault_0 2 rfl rfl)
theorem dX4_fault_5 : decode cX4_fault 5 = .ok (.aload_n 0, 1) := dk_42 (dk_at dksX4_fault_0 5 rfl rfl)
theorem dX4_fault_6 : decode cX4_fault 6 = .ok (.getfield 35, 3) := dk_180 0 35 (dk_at dksX4_fault_0 6 rfl rfl)
theorem dX4_fault_9 : decode cX4_fault 9 = .ok (.ireturn, 1) := dk_172 (dk_at dksX4_fault_0 9 rfl rfl)
abbrev cX4_undo : ByteArray := prog_12_method_44_code
def yX4_undo : MethodName := ⟨RX4, "undo", "()I"⟩
def dkwX4_undo_2 : List UInt8 := [27, 96, 46, 79, 132, 1, 1, 167, 255, 227, 42, 180, 1, 40, 172]
abbrev dktX4_undo_2 : List UInt8 := dkwX4_undo_2 ++ []
def dkwX4_undo_1 : List UInt8 := [3, 60, 27, 16, 34, 162, 0, 29, 42, 180, 0, 66, 27, 42, 180, 0, 69, 16, 34, 42, 180, 1, 40, 104]
abbrev dktX4_undo_1 : List UInt8 := dkwX4_undo_1 ++ dktX4_undo_2
def dkwX4_undo_0 : List UInt8 := [42, 3, 181, 0, 102, 42, 180, 1, 40, 154, 0, 5, 2, 172, 42, 89, 180, 1, 40, 4, 100, 181, 1, 40]
abbrev dktX4_undo_0 : List UInt8 := dkwX4_undo_0 ++ dktX4_undo_1
theorem dksX4_undo_0 : cX4_undo.data.toList.drop 0 = dktX4_undo_0 := by decide +kernel
theorem dksX4_undo_1 : cX4_undo.data.toList.drop 24 = dktX4_undo_1 := dk_seg dksX4_undo_0 24 rfl rfl
theorem dksX4_undo_2 : cX4_undo.data.toList.drop 48 = dktX4_undo_2 := dk_seg dksX4_undo_1 24 rfl rfl
theorem dX4_undo_0 : decode cX4_undo 0 = .ok (.aload_n 0, 1) := dk_42 (dk_at dksX4_undo_0 0 rfl rfl)
theorem dX4_undo_1 : decode cX4_undo 1 = .ok (.iconst 0, 1) := dk_3 (dk_at dksX4_undo_0 1 rfl rfl)
theorem dX4_undo_2 : decode cX4_undo 2 = .ok (.putfield 102, 3) := dk_181 0 102 (dk_at dksX4_undo_0 2 rfl rfl)
theorem dX4_undo_5 : decode cX4_undo 5 = .ok (.aload_n 0, 1) := dk_42 (dk_at dksX4_undo_0 5 rfl rfl)
theorem dX4_undo_6 : decode cX4_undo 6 = .ok (.getfield 296, 3) := dk_180 1 40 (dk_at dksX4_undo_0 6 rfl rfl)
theorem dX4_undo_9 : decode cX4_undo 9 = .ok (.ifCond .ne 5, 3) := dk_154 0 5 (dk_at dksX4_undo_0 9 rfl rfl)
theorem dX4_undo_12 : decode cX4_undo 12 = .ok (.iconst (-1), 1) := dk_2 (dk_at dksX4_undo_0 12 rfl rfl)
theorem dX4_undo_13 : decode cX4_undo 13 = .ok (.ireturn, 1) := dk_172 (dk_at dksX4_undo_0 13 rfl rfl)
theorem dX4_undo_14 : decode cX4_undo 14 = .ok (.aload_n 0, 1) := dk_42 (dk_at dksX4_undo_0 14 rfl rfl)
theorem dX4_undo_15 : decode cX4_undo 15 = .ok (.dup, 1) := dk_89 (dk_at dksX4_undo_0 15 rfl rfl)
theorem dX4_undo_16 : decode cX4_undo 16 = .ok (.getfield 296, 3) := dk_180 1 40 (dk_at dksX4_undo_0 16 rfl rfl)
theorem dX4_undo_19 : decode cX4_undo 19 = .ok (.iconst 1, 1) := dk_4 (dk_at dksX4_undo_0 19 rfl rfl)
theorem dX4_undo_20 : decode cX4_undo 20 = .ok (.isub, 1) := dk_100 (dk_at dksX4_undo_0 20 rfl rfl)
theorem dX4_undo_21 : decode cX4_undo 21 = .ok (.putfield 296, 3) := dk_181 1 40 (dk_at dksX4_undo_0 21 rfl rfl)
theorem dX4_undo_24 : decode cX4_undo 24 = .ok (.iconst 0, 1) := dk_3 (dk_at dksX4_undo_1 0 rfl rfl)
theorem dX4_undo_25 : decode cX4_undo 25 = .ok (.istore_n 1, 1) := dk_60 (dk_at dksX4_undo_1 1 rfl rfl)
theorem dX4_undo_26 : decode cX4_undo 26 = .ok (.iload_n 1, 1) := dk_27 (dk_at dksX4_undo_1 2 rfl rfl)
theorem dX4_undo_27 : decode cX4_undo 27 = .ok (.bipush 34, 2) := dk_16 34 (dk_at dksX4_undo_1 3 rfl rfl)
theorem dX4_undo_29 : decode cX4_undo 29 = .ok (.if_icmp .ge 29, 3) := dk_162 0 29 (dk_at dksX4_undo_1 5 rfl rfl)
theorem dX4_undo_32 : decode cX4_undo 32 = .ok (.aload_n 0, 1) := dk_42 (dk_at dksX4_undo_1 8 rfl rfl)
theorem dX4_undo_33 : decode cX4_undo 33 = .ok (.getfield 66, 3) := dk_180 0 66 (dk_at dksX4_undo_1 9 rfl rfl)
theorem dX4_undo_36 : decode cX4_undo 36 = .ok (.iload_n 1, 1) := dk_27 (dk_at dksX4_undo_1 12 rfl rfl)
theorem dX4_undo_37 : decode cX4_undo 37 = .ok (.aload_n 0, 1) := dk_42 (dk_at dksX4_undo_1 13 rfl rfl)
theorem dX4_undo_38 : decode cX4_undo 38 = .ok (.getfield 69, 3) := dk_180 0 69 (dk_at dksX4_undo_1 14 rfl rfl)
theorem dX4_undo_41 : decode cX4_undo 41 = .ok (.bipush 34, 2) := dk_16 34 (dk_at dksX4_undo_1 17 rfl rfl)
theorem dX4_undo_43 : decode cX4_undo 43 = .ok (.aload_n 0, 1) := dk_42 (dk_at dksX4_undo_1 19 rfl rfl)
theorem dX4_undo_44 : decode cX4_undo 44 = .ok (.getfield 296, 3) := dk_180 1 40 (dk_at dksX4_undo_1 20 rfl rfl)
theorem dX4_undo_47 : decode cX4_undo 47 = .ok (.imul, 1) := dk_104 (dk_at dksX4_undo_1 23 rfl rfl)
theorem dX4_undo_48 : decode cX4_undo 48 = .ok (.iload_n 1, 1) := dk_27 (dk_at dksX4_undo_2 0 rfl rfl)
theorem dX4_undo_49 : decode cX4_undo 49 = .ok (.iadd, 1) := dk_96 (dk_at dksX4_undo_2 1 rfl rfl)
theorem dX4_undo_50 : decode cX4_undo 50 = .ok (.iaload, 1) := dk_46 (dk_at dksX4_undo_2 2 rfl rfl)
theorem dX4_undo_51 : decode cX4_undo 51 = .ok (.iastore, 1) := dk_79 (dk_at dksX4_undo_2 3 rfl rfl)
theorem dX4_undo_52 : decode cX4_undo 52 = .ok (.iinc 1 1, 3) := dk_132 1 1 (dk_at dksX4_undo_2 4 rfl rfl)
theorem dX4_undo_55 : decode cX4_undo 55 = .ok (.goto (-29), 3) := dk_167 255 227 (dk_at dksX4_undo_2 7 rfl rfl)
theorem dX4_undo_58 : decode cX4_undo 58 = .ok (.aload_n 0, 1) := dk_42 (dk_at dksX4_undo_2 10 rfl rfl)
theorem dX4_undo_59 : decode cX4_undo 59 = .ok (.getfield 296, 3) := dk_180 1 40 (dk_at dksX4_undo_2 11 rfl rfl)
theorem dX4_undo_62 : decode cX4_undo 62 = .ok (.ireturn, 1) := dk_172 (dk_at dksX4_undo_2 14 rfl rfl)
abbrev cX4_count : ByteArray := prog_12_method_67_code
def yX4_count : MethodName := ⟨RX4, "count", "(I)I"⟩
def dkwX4_count_5 : List UInt8 := [27, 16, 12, 100, 46, 172]
abbrev dktX4_count_5 : List UInt8 := dkwX4_count_5 ++ []
def dkwX4_count_4 : List UInt8 := [42, 182, 1, 119, 172, 42, 180, 1, 40, 172, 42, 180, 1, 43, 172, 42, 180, 0, 105, 172, 42, 180, 0, 38]
abbrev dktX4_count_4 : List UInt8 := dkwX4_count_4 ++ dktX4_count_5
def dkwX4_count_3 : List UInt8 := [3, 46, 172, 42, 182, 1, 110, 172, 42, 3, 182, 1, 113, 172, 42, 3, 42, 182, 1, 116, 182, 1, 82, 172]
abbrev dktX4_count_3 : List UInt8 := dkwX4_count_3 ++ dktX4_count_4
def dkwX4_count_2 : List UInt8 := [42, 180, 1, 24, 172, 42, 180, 1, 27, 172, 42, 180, 1, 30, 172, 42, 180, 1, 33, 172, 42, 180, 0, 66]
abbrev dktX4_count_2 : List UInt8 := dkwX4_count_2 ++ dktX4_count_3
def dkwX4_count_1 : List UInt8 := [170, 0, 0, 0, 129, 0, 0, 0, 0, 0, 0, 0, 11, 0, 0, 0, 61, 0, 0, 0, 66, 0, 0, 0, 71, 0, 0, 0, 76, 0, 0, 0, 81, 0, 0, 0, 88, 0, 0, 0, 93, 0, 0, 0, 99, 0, 0, 0, 109, 0, 0, 0, 114, 0, 0, 0, 119, 0, 0, 0, 124]
abbrev dktX4_count_1 : List UInt8 := dkwX4_count_1 ++ dktX4_count_2
def dkwX4_count_0 : List UInt8 := [42, 3, 181, 0, 102, 42, 27, 3, 16, 14, 184, 1, 107, 4, 182, 1, 17, 154, 0, 5, 3, 172, 27]
abbrev dktX4_count_0 : List UInt8 := dkwX4_count_0 ++ dktX4_count_1
theorem dksX4_count_0 : cX4_count.data.toList.drop 0 = dktX4_count_0 := by decide +kernel
theorem dksX4_count_1 : cX4_count.data.toList.drop 23 = dktX4_count_1 := dk_seg dksX4_count_0 23 rfl rfl
theorem dksX4_count_2 : cX4_count.data.toList.drop 84 = dktX4_count_2 := dk_seg dksX4_count_1 61 rfl rfl
theorem dksX4_count_3 : cX4_count.data.toList.drop 108 = dktX4_count_3 := dk_seg dksX4_count_2 24 rfl rfl
theorem dksX4_count_4 : cX4_count.data.toList.drop 132 = dktX4_count_4 := dk_seg dksX4_count_3 24 rfl rfl
theorem dksX4_count_5 : cX4_count.data.toList.drop 156 = dktX4_count_5 := dk_seg dksX4_count_4 24 rfl rfl
theorem dX4_count_0 : decode cX4_count 0 = .ok (.aload_n 0, 1) := dk_42 (dk_at dksX4_count_0 0 rfl rfl)
theorem dX4_count_1 : decode cX4_count 1 = .ok (.iconst 0, 1) := dk_3 (dk_at dksX4_count_0 1 rfl rfl)
theorem dX4_count_2 : decode cX4_count 2 = .ok (.putfield 102, 3) := dk_181 0 102 (dk_at dksX4_count_0 2 rfl rfl)
theorem dX4_count_5 : decode cX4_count 5 = .ok (.aload_n 0, 1) := dk_42 (dk_at dksX4_count_0 5 rfl rfl)
theorem dX4_count_6 : decode cX4_count 6 = .ok (.iload_n 1, 1) := dk_27 (dk_at dksX4_count_0 6 rfl rfl)
theorem dX4_count_7 : decode cX4_count 7 = .ok (.iconst 0, 1) := dk_3 (dk_at dksX4_count_0 7 rfl rfl)
theorem dX4_count_8 : decode cX4_count 8 = .ok (.bipush 14, 2) := dk_16 14 (dk_at dksX4_count_0 8 rfl rfl)
theorem dX4_count_10 : decode cX4_count 10 = .ok (.invokestatic 363, 3) := dk_184 1 107 (dk_at dksX4_count_0 10 rfl rfl)
theorem dX4_count_13 : decode cX4_count 13 = .ok (.iconst 1, 1) := dk_4 (dk_at dksX4_count_0 13 rfl rfl)
theorem dX4_count_14 : decode cX4_count 14 = .ok (.invokevirtual 273, 3) := dk_182 1 17 (dk_at dksX4_count_0 14 rfl rfl)
theorem dX4_count_17 : decode cX4_count 17 = .ok (.ifCond .ne 5, 3) := dk_154 0 5 (dk_at dksX4_count_0 17 rfl rfl)
theorem dX4_count_20 : decode cX4_count 20 = .ok (.iconst 0, 1) := dk_3 (dk_at dksX4_count_0 20 rfl rfl)
theorem dX4_count_21 : decode cX4_count 21 = .ok (.ireturn, 1) := dk_172 (dk_at dksX4_count_0 21 rfl rfl)
theorem dX4_count_22 : decode cX4_count 22 = .ok (.iload_n 1, 1) := dk_27 (dk_at dksX4_count_0 22 rfl rfl)
theorem dX4_count_23 : decode cX4_count 23 = .ok (.tableswitch 129 0 11 #[61, 66, 71, 76, 81, 88, 93, 99, 109, 114, 119, 124], 61) := by decide +kernel
theorem dX4_count_84 : decode cX4_count 84 = .ok (.aload_n 0, 1) := dk_42 (dk_at dksX4_count_2 0 rfl rfl)
theorem dX4_count_85 : decode cX4_count 85 = .ok (.getfield 280, 3) := dk_180 1 24 (dk_at dksX4_count_2 1 rfl rfl)
theorem dX4_count_88 : decode cX4_count 88 = .ok (.ireturn, 1) := dk_172 (dk_at dksX4_count_2 4 rfl rfl)
theorem dX4_count_89 : decode cX4_count 89 = .ok (.aload_n 0, 1) := dk_42 (dk_at dksX4_count_2 5 rfl rfl)
theorem dX4_count_90 : decode cX4_count 90 = .ok (.getfield 283, 3) := dk_180 1 27 (dk_at dksX4_count_2 6 rfl rfl)
theorem dX4_count_93 : decode cX4_count 93 = .ok (.ireturn, 1) := dk_172 (dk_at dksX4_count_2 9 rfl rfl)
theorem dX4_count_94 : decode cX4_count 94 = .ok (.aload_n 0, 1) := dk_42 (dk_at dksX4_count_2 10 rfl rfl)
theorem dX4_count_95 : decode cX4_count 95 = .ok (.getfield 286, 3) := dk_180 1 30 (dk_at dksX4_count_2 11 rfl rfl)
theorem dX4_count_98 : decode cX4_count 98 = .ok (.ireturn, 1) := dk_172 (dk_at dksX4_count_2 14 rfl rfl)
theorem dX4_count_99 : decode cX4_count 99 = .ok (.aload_n 0, 1) := dk_42 (dk_at dksX4_count_2 15 rfl rfl)
theorem dX4_count_100 : decode cX4_count 100 = .ok (.getfield 289, 3) := dk_180 1 33 (dk_at dksX4_count_2 16 rfl rfl)
theorem dX4_count_103 : decode cX4_count 103 = .ok (.ireturn, 1) := dk_172 (dk_at dksX4_count_2 19 rfl rfl)
theorem dX4_count_104 : decode cX4_count 104 = .ok (.aload_n 0, 1) := dk_42 (dk_at dksX4_count_2 20 rfl rfl)
theorem dX4_count_105 : decode cX4_count 105 = .ok (.getfield 66, 3) := dk_180 0 66 (dk_at dksX4_count_2 21 rfl rfl)
theorem dX4_count_108 : decode cX4_count 108 = .ok (.iconst 0, 1) := dk_3 (dk_at dksX4_count_3 0 rfl rfl)
theorem dX4_count_109 : decode cX4_count 109 = .ok (.iaload, 1) := dk_46 (dk_at dksX4_count_3 1 rfl rfl)
theorem dX4_count_110 : decode cX4_count 110 = .ok (.ireturn, 1) := dk_172 (dk_at dksX4_count_3 2 rfl rfl)
theorem dX4_count_111 : decode cX4_count 111 = .ok (.aload_n 0, 1) := dk_42 (dk_at dksX4_count_3 3 rfl rfl)
theorem dX4_count_112 : decode cX4_count 112 = .ok (.invokevirtual 366, 3) := dk_182 1 110 (dk_at dksX4_count_3 4 rfl rfl)
theorem dX4_count_115 : decode cX4_count 115 = .ok (.ireturn, 1) := dk_172 (dk_at dksX4_count_3 7 rfl rfl)
theorem dX4_count_116 : decode cX4_count 116 = .ok (.aload_n 0, 1) := dk_42 (dk_at dksX4_count_3 8 rfl rfl)
theorem dX4_count_117 : decode cX4_count 117 = .ok (.iconst 0, 1) := dk_3 (dk_at dksX4_count_3 9 rfl rfl)
theorem dX4_count_118 : decode cX4_count 118 = .ok (.invokevirtual 369, 3) := dk_182 1 113 (dk_at dksX4_count_3 10 rfl rfl)
theorem dX4_count_121 : decode cX4_count 121 = .ok (.ireturn, 1) := dk_172 (dk_at dksX4_count_3 13 rfl rfl)
theorem dX4_count_122 : decode cX4_count 122 = .ok (.aload_n 0, 1) := dk_42 (dk_at dksX4_count_3 14 rfl rfl)
theorem dX4_count_123 : decode cX4_count 123 = .ok (.iconst 0, 1) := dk_3 (dk_at dksX4_count_3 15 rfl rfl)
theorem dX4_count_124 : decode cX4_count 124 = .ok (.aload_n 0, 1) := dk_42 (dk_at dksX4_count_3 16 rfl rfl)
theorem dX4_count_125 : decode cX4_count 125 = .ok (.invokevirtual 372, 3) := dk_182 1 116 (dk_at dksX4_count_3 17 rfl rfl)
theorem dX4_count_128 : decode cX4_count 128 = .ok (.invokevirtual 338, 3) := dk_182 1 82 (dk_at dksX4_count_3 20 rfl rfl)
theorem dX4_count_131 : decode cX4_count 131 = .ok (.ireturn, 1) := dk_172 (dk_at dksX4_count_3 23 rfl rfl)
theorem dX4_count_132 : decode cX4_count 132 = .ok (.aload_n 0, 1) := dk_42 (dk_at dksX4_count_4 0 rfl rfl)
theorem dX4_count_133 : decode cX4_count 133 = .ok (.invokevirtual 375, 3) := dk_182 1 119 (dk_at dksX4_count_4 1 rfl rfl)
theorem dX4_count_136 : decode cX4_count 136 = .ok (.ireturn, 1) := dk_172 (dk_at dksX4_count_4 4 rfl rfl)
theorem dX4_count_137 : decode cX4_count 137 = .ok (.aload_n 0, 1) := dk_42 (dk_at dksX4_count_4 5 rfl rfl)
theorem dX4_count_138 : decode cX4_count 138 = .ok (.getfield 296, 3) := dk_180 1 40 (dk_at dksX4_count_4 6 rfl rfl)
theorem dX4_count_141 : decode cX4_count 141 = .ok (.ireturn, 1) := dk_172 (dk_at dksX4_count_4 9 rfl rfl)
theorem dX4_count_142 : decode cX4_count 142 = .ok (.aload_n 0, 1) := dk_42 (dk_at dksX4_count_4 10 rfl rfl)
theorem dX4_count_143 : decode cX4_count 143 = .ok (.getfield 299, 3) := dk_180 1 43 (dk_at dksX4_count_4 11 rfl rfl)
theorem dX4_count_146 : decode cX4_count 146 = .ok (.ireturn, 1) := dk_172 (dk_at dksX4_count_4 14 rfl rfl)
theorem dX4_count_147 : decode cX4_count 147 = .ok (.aload_n 0, 1) := dk_42 (dk_at dksX4_count_4 15 rfl rfl)
theorem dX4_count_148 : decode cX4_count 148 = .ok (.getfield 105, 3) := dk_180 0 105 (dk_at dksX4_count_4 16 rfl rfl)
theorem dX4_count_151 : decode cX4_count 151 = .ok (.ireturn, 1) := dk_172 (dk_at dksX4_count_4 19 rfl rfl)
theorem dX4_count_152 : decode cX4_count 152 = .ok (.aload_n 0, 1) := dk_42 (dk_at dksX4_count_4 20 rfl rfl)
theorem dX4_count_153 : decode cX4_count 153 = .ok (.getfield 38, 3) := dk_180 0 38 (dk_at dksX4_count_4 21 rfl rfl)
theorem dX4_count_156 : decode cX4_count 156 = .ok (.iload_n 1, 1) := dk_27 (dk_at dksX4_count_5 0 rfl rfl)
theorem dX4_count_157 : decode cX4_count 157 = .ok (.bipush 12, 2) := dk_16 12 (dk_at dksX4_count_5 1 rfl rfl)
theorem dX4_count_159 : decode cX4_count 159 = .ok (.isub, 1) := dk_100 (dk_at dksX4_count_5 3 rfl rfl)
theorem dX4_count_160 : decode cX4_count 160 = .ok (.iaload, 1) := dk_46 (dk_at dksX4_count_5 4 rfl rfl)
theorem dX4_count_161 : decode cX4_count 161 = .ok (.ireturn, 1) := dk_172 (dk_at dksX4_count_5 5 rfl rfl)
abbrev cX4_within : ByteArray := prog_12_method_4_code
def yX4_within : MethodName := ⟨RX4, "within", "(III)Z"⟩
def dkwX4_within_0 : List UInt8 := [26, 27, 161, 0, 12, 26, 28, 163, 0, 7, 4, 167, 0, 4, 3, 172]
abbrev dktX4_within_0 : List UInt8 := dkwX4_within_0 ++ []
theorem dksX4_within_0 : cX4_within.data.toList.drop 0 = dktX4_within_0 := by decide +kernel
theorem dX4_within_0 : decode cX4_within 0 = .ok (.iload_n 0, 1) := dk_26 (dk_at dksX4_within_0 0 rfl rfl)
theorem dX4_within_1 : decode cX4_within 1 = .ok (.iload_n 1, 1) := dk_27 (dk_at dksX4_within_0 1 rfl rfl)
theorem dX4_within_2 : decode cX4_within 2 = .ok (.if_icmp .lt 12, 3) := dk_161 0 12 (dk_at dksX4_within_0 2 rfl rfl)
theorem dX4_within_5 : decode cX4_within 5 = .ok (.iload_n 0, 1) := dk_26 (dk_at dksX4_within_0 5 rfl rfl)
theorem dX4_within_6 : decode cX4_within 6 = .ok (.iload_n 2, 1) := dk_28 (dk_at dksX4_within_0 6 rfl rfl)
theorem dX4_within_7 : decode cX4_within 7 = .ok (.if_icmp .gt 7, 3) := dk_163 0 7 (dk_at dksX4_within_0 7 rfl rfl)
theorem dX4_within_10 : decode cX4_within 10 = .ok (.iconst 1, 1) := dk_4 (dk_at dksX4_within_0 10 rfl rfl)
theorem dX4_within_11 : decode cX4_within 11 = .ok (.goto 4, 3) := dk_167 0 4 (dk_at dksX4_within_0 11 rfl rfl)
theorem dX4_within_14 : decode cX4_within 14 = .ok (.iconst 0, 1) := dk_3 (dk_at dksX4_within_0 14 rfl rfl)
theorem dX4_within_15 : decode cX4_within 15 = .ok (.ireturn, 1) := dk_172 (dk_at dksX4_within_0 15 rfl rfl)
abbrev cX4_burntOnes : ByteArray := prog_12_method_64_code
def yX4_burntOnes : MethodName := ⟨RX4, "burntOnes", "()I"⟩
def dkwX4_burntOnes_1 : List UInt8 := [120, 167, 0, 4, 3, 128, 60, 132, 2, 1, 167, 255, 226, 27, 172]
abbrev dktX4_burntOnes_1 : List UInt8 := dkwX4_burntOnes_1 ++ []
def dkwX4_burntOnes_0 : List UInt8 := [3, 60, 3, 61, 28, 42, 180, 1, 24, 162, 0, 28, 27, 42, 3, 28, 182, 1, 63, 153, 0, 9, 4, 28]
abbrev dktX4_burntOnes_0 : List UInt8 := dkwX4_burntOnes_0 ++ dktX4_burntOnes_1
theorem dksX4_burntOnes_0 : cX4_burntOnes.data.toList.drop 0 = dktX4_burntOnes_0 := by decide +kernel
theorem dksX4_burntOnes_1 : cX4_burntOnes.data.toList.drop 24 = dktX4_burntOnes_1 := dk_seg dksX4_burntOnes_0 24 rfl rfl
theorem dX4_burntOnes_0 : decode cX4_burntOnes 0 = .ok (.iconst 0, 1) := dk_3 (dk_at dksX4_burntOnes_0 0 rfl rfl)
theorem dX4_burntOnes_1 : decode cX4_burntOnes 1 = .ok (.istore_n 1, 1) := dk_60 (dk_at dksX4_burntOnes_0 1 rfl rfl)
theorem dX4_burntOnes_2 : decode cX4_burntOnes 2 = .ok (.iconst 0, 1) := dk_3 (dk_at dksX4_burntOnes_0 2 rfl rfl)
theorem dX4_burntOnes_3 : decode cX4_burntOnes 3 = .ok (.istore_n 2, 1) := dk_61 (dk_at dksX4_burntOnes_0 3 rfl rfl)
theorem dX4_burntOnes_4 : decode cX4_burntOnes 4 = .ok (.iload_n 2, 1) := dk_28 (dk_at dksX4_burntOnes_0 4 rfl rfl)
theorem dX4_burntOnes_5 : decode cX4_burntOnes 5 = .ok (.aload_n 0, 1) := dk_42 (dk_at dksX4_burntOnes_0 5 rfl rfl)
theorem dX4_burntOnes_6 : decode cX4_burntOnes 6 = .ok (.getfield 280, 3) := dk_180 1 24 (dk_at dksX4_burntOnes_0 6 rfl rfl)
theorem dX4_burntOnes_9 : decode cX4_burntOnes 9 = .ok (.if_icmp .ge 28, 3) := dk_162 0 28 (dk_at dksX4_burntOnes_0 9 rfl rfl)
theorem dX4_burntOnes_12 : decode cX4_burntOnes 12 = .ok (.iload_n 1, 1) := dk_27 (dk_at dksX4_burntOnes_0 12 rfl rfl)
theorem dX4_burntOnes_13 : decode cX4_burntOnes 13 = .ok (.aload_n 0, 1) := dk_42 (dk_at dksX4_burntOnes_0 13 rfl rfl)
theorem dX4_burntOnes_14 : decode cX4_burntOnes 14 = .ok (.iconst 0, 1) := dk_3 (dk_at dksX4_burntOnes_0 14 rfl rfl)
theorem dX4_burntOnes_15 : decode cX4_burntOnes 15 = .ok (.iload_n 2, 1) := dk_28 (dk_at dksX4_burntOnes_0 15 rfl rfl)
theorem dX4_burntOnes_16 : decode cX4_burntOnes 16 = .ok (.invokevirtual 319, 3) := dk_182 1 63 (dk_at dksX4_burntOnes_0 16 rfl rfl)
theorem dX4_burntOnes_19 : decode cX4_burntOnes 19 = .ok (.ifCond .eq 9, 3) := dk_153 0 9 (dk_at dksX4_burntOnes_0 19 rfl rfl)
theorem dX4_burntOnes_22 : decode cX4_burntOnes 22 = .ok (.iconst 1, 1) := dk_4 (dk_at dksX4_burntOnes_0 22 rfl rfl)
theorem dX4_burntOnes_23 : decode cX4_burntOnes 23 = .ok (.iload_n 2, 1) := dk_28 (dk_at dksX4_burntOnes_0 23 rfl rfl)
theorem dX4_burntOnes_24 : decode cX4_burntOnes 24 = .ok (.ishl, 1) := dk_120 (dk_at dksX4_burntOnes_1 0 rfl rfl)
theorem dX4_burntOnes_25 : decode cX4_burntOnes 25 = .ok (.goto 4, 3) := dk_167 0 4 (dk_at dksX4_burntOnes_1 1 rfl rfl)
theorem dX4_burntOnes_28 : decode cX4_burntOnes 28 = .ok (.iconst 0, 1) := dk_3 (dk_at dksX4_burntOnes_1 4 rfl rfl)
theorem dX4_burntOnes_29 : decode cX4_burntOnes 29 = .ok (.ior, 1) := dk_128 (dk_at dksX4_burntOnes_1 5 rfl rfl)
theorem dX4_burntOnes_30 : decode cX4_burntOnes 30 = .ok (.istore_n 1, 1) := dk_60 (dk_at dksX4_burntOnes_1 6 rfl rfl)
theorem dX4_burntOnes_31 : decode cX4_burntOnes 31 = .ok (.iinc 2 1, 3) := dk_132 2 1 (dk_at dksX4_burntOnes_1 7 rfl rfl)
theorem dX4_burntOnes_34 : decode cX4_burntOnes 34 = .ok (.goto (-30), 3) := dk_167 255 226 (dk_at dksX4_burntOnes_1 10 rfl rfl)
theorem dX4_burntOnes_37 : decode cX4_burntOnes 37 = .ok (.iload_n 1, 1) := dk_27 (dk_at dksX4_burntOnes_1 13 rfl rfl)
theorem dX4_burntOnes_38 : decode cX4_burntOnes 38 = .ok (.ireturn, 1) := dk_172 (dk_at dksX4_burntOnes_1 14 rfl rfl)
abbrev cX4_isBurnt : ByteArray := prog_12_method_50_code
def yX4_isBurnt : MethodName := ⟨RX4, "isBurnt", "(II)Z"⟩
def dkwX4_isBurnt_0 : List UInt8 := [42, 180, 0, 66, 27, 16, 19, 96, 28, 96, 46, 2, 160, 0, 7, 4, 167, 0, 4, 3, 172]
abbrev dktX4_isBurnt_0 : List UInt8 := dkwX4_isBurnt_0 ++ []
theorem dksX4_isBurnt_0 : cX4_isBurnt.data.toList.drop 0 = dktX4_isBurnt_0 := by decide +kernel
theorem dX4_isBurnt_0 : decode cX4_isBurnt 0 = .ok (.aload_n 0, 1) := dk_42 (dk_at dksX4_isBurnt_0 0 rfl rfl)
theorem dX4_isBurnt_1 : decode cX4_isBurnt 1 = .ok (.getfield 66, 3) := dk_180 0 66 (dk_at dksX4_isBurnt_0 1 rfl rfl)
theorem dX4_isBurnt_4 : decode cX4_isBurnt 4 = .ok (.iload_n 1, 1) := dk_27 (dk_at dksX4_isBurnt_0 4 rfl rfl)
theorem dX4_isBurnt_5 : decode cX4_isBurnt 5 = .ok (.bipush 19, 2) := dk_16 19 (dk_at dksX4_isBurnt_0 5 rfl rfl)
theorem dX4_isBurnt_7 : decode cX4_isBurnt 7 = .ok (.iadd, 1) := dk_96 (dk_at dksX4_isBurnt_0 7 rfl rfl)
theorem dX4_isBurnt_8 : decode cX4_isBurnt 8 = .ok (.iload_n 2, 1) := dk_28 (dk_at dksX4_isBurnt_0 8 rfl rfl)
theorem dX4_isBurnt_9 : decode cX4_isBurnt 9 = .ok (.iadd, 1) := dk_96 (dk_at dksX4_isBurnt_0 9 rfl rfl)
theorem dX4_isBurnt_10 : decode cX4_isBurnt 10 = .ok (.iaload, 1) := dk_46 (dk_at dksX4_isBurnt_0 10 rfl rfl)
theorem dX4_isBurnt_11 : decode cX4_isBurnt 11 = .ok (.iconst (-1), 1) := dk_2 (dk_at dksX4_isBurnt_0 11 rfl rfl)
theorem dX4_isBurnt_12 : decode cX4_isBurnt 12 = .ok (.if_icmp .ne 7, 3) := dk_160 0 7 (dk_at dksX4_isBurnt_0 12 rfl rfl)
theorem dX4_isBurnt_15 : decode cX4_isBurnt 15 = .ok (.iconst 1, 1) := dk_4 (dk_at dksX4_isBurnt_0 15 rfl rfl)
theorem dX4_isBurnt_16 : decode cX4_isBurnt 16 = .ok (.goto 4, 3) := dk_167 0 4 (dk_at dksX4_isBurnt_0 16 rfl rfl)
theorem dX4_isBurnt_19 : decode cX4_isBurnt 19 = .ok (.iconst 0, 1) := dk_3 (dk_at dksX4_isBurnt_0 19 rfl rfl)
theorem dX4_isBurnt_20 : decode cX4_isBurnt 20 = .ok (.ireturn, 1) := dk_172 (dk_at dksX4_isBurnt_0 20 rfl rfl)
abbrev cX4_borneOnes : ByteArray := prog_12_method_65_code
def yX4_borneOnes : MethodName := ⟨RX4, "borneOnes", "(I)I"⟩
def dkwX4_borneOnes_1 : List UInt8 := [16, 10, 161, 0, 9, 4, 29, 120, 167, 0, 4, 3, 128, 61, 132, 3, 1, 167, 255, 219, 28, 172]
abbrev dktX4_borneOnes_1 : List UInt8 := dkwX4_borneOnes_1 ++ []
def dkwX4_borneOnes_0 : List UInt8 := [3, 61, 3, 62, 29, 42, 180, 1, 24, 162, 0, 35, 28, 42, 180, 0, 66, 27, 16, 19, 96, 29, 96, 46]
abbrev dktX4_borneOnes_0 : List UInt8 := dkwX4_borneOnes_0 ++ dktX4_borneOnes_1
theorem dksX4_borneOnes_0 : cX4_borneOnes.data.toList.drop 0 = dktX4_borneOnes_0 := by decide +kernel
theorem dksX4_borneOnes_1 : cX4_borneOnes.data.toList.drop 24 = dktX4_borneOnes_1 := dk_seg dksX4_borneOnes_0 24 rfl rfl
theorem dX4_borneOnes_0 : decode cX4_borneOnes 0 = .ok (.iconst 0, 1) := dk_3 (dk_at dksX4_borneOnes_0 0 rfl rfl)
theorem dX4_borneOnes_1 : decode cX4_borneOnes 1 = .ok (.istore_n 2, 1) := dk_61 (dk_at dksX4_borneOnes_0 1 rfl rfl)
theorem dX4_borneOnes_2 : decode cX4_borneOnes 2 = .ok (.iconst 0, 1) := dk_3 (dk_at dksX4_borneOnes_0 2 rfl rfl)
theorem dX4_borneOnes_3 : decode cX4_borneOnes 3 = .ok (.istore_n 3, 1) := dk_62 (dk_at dksX4_borneOnes_0 3 rfl rfl)
theorem dX4_borneOnes_4 : decode cX4_borneOnes 4 = .ok (.iload_n 3, 1) := dk_29 (dk_at dksX4_borneOnes_0 4 rfl rfl)
theorem dX4_borneOnes_5 : decode cX4_borneOnes 5 = .ok (.aload_n 0, 1) := dk_42 (dk_at dksX4_borneOnes_0 5 rfl rfl)
theorem dX4_borneOnes_6 : decode cX4_borneOnes 6 = .ok (.getfield 280, 3) := dk_180 1 24 (dk_at dksX4_borneOnes_0 6 rfl rfl)
theorem dX4_borneOnes_9 : decode cX4_borneOnes 9 = .ok (.if_icmp .ge 35, 3) := dk_162 0 35 (dk_at dksX4_borneOnes_0 9 rfl rfl)
theorem dX4_borneOnes_12 : decode cX4_borneOnes 12 = .ok (.iload_n 2, 1) := dk_28 (dk_at dksX4_borneOnes_0 12 rfl rfl)
theorem dX4_borneOnes_13 : decode cX4_borneOnes 13 = .ok (.aload_n 0, 1) := dk_42 (dk_at dksX4_borneOnes_0 13 rfl rfl)
theorem dX4_borneOnes_14 : decode cX4_borneOnes 14 = .ok (.getfield 66, 3) := dk_180 0 66 (dk_at dksX4_borneOnes_0 14 rfl rfl)
theorem dX4_borneOnes_17 : decode cX4_borneOnes 17 = .ok (.iload_n 1, 1) := dk_27 (dk_at dksX4_borneOnes_0 17 rfl rfl)
theorem dX4_borneOnes_18 : decode cX4_borneOnes 18 = .ok (.bipush 19, 2) := dk_16 19 (dk_at dksX4_borneOnes_0 18 rfl rfl)
theorem dX4_borneOnes_20 : decode cX4_borneOnes 20 = .ok (.iadd, 1) := dk_96 (dk_at dksX4_borneOnes_0 20 rfl rfl)
theorem dX4_borneOnes_21 : decode cX4_borneOnes 21 = .ok (.iload_n 3, 1) := dk_29 (dk_at dksX4_borneOnes_0 21 rfl rfl)
theorem dX4_borneOnes_22 : decode cX4_borneOnes 22 = .ok (.iadd, 1) := dk_96 (dk_at dksX4_borneOnes_0 22 rfl rfl)
theorem dX4_borneOnes_23 : decode cX4_borneOnes 23 = .ok (.iaload, 1) := dk_46 (dk_at dksX4_borneOnes_0 23 rfl rfl)
theorem dX4_borneOnes_24 : decode cX4_borneOnes 24 = .ok (.bipush 10, 2) := dk_16 10 (dk_at dksX4_borneOnes_1 0 rfl rfl)
theorem dX4_borneOnes_26 : decode cX4_borneOnes 26 = .ok (.if_icmp .lt 9, 3) := dk_161 0 9 (dk_at dksX4_borneOnes_1 2 rfl rfl)
theorem dX4_borneOnes_29 : decode cX4_borneOnes 29 = .ok (.iconst 1, 1) := dk_4 (dk_at dksX4_borneOnes_1 5 rfl rfl)
theorem dX4_borneOnes_30 : decode cX4_borneOnes 30 = .ok (.iload_n 3, 1) := dk_29 (dk_at dksX4_borneOnes_1 6 rfl rfl)
theorem dX4_borneOnes_31 : decode cX4_borneOnes 31 = .ok (.ishl, 1) := dk_120 (dk_at dksX4_borneOnes_1 7 rfl rfl)
theorem dX4_borneOnes_32 : decode cX4_borneOnes 32 = .ok (.goto 4, 3) := dk_167 0 4 (dk_at dksX4_borneOnes_1 8 rfl rfl)
theorem dX4_borneOnes_35 : decode cX4_borneOnes 35 = .ok (.iconst 0, 1) := dk_3 (dk_at dksX4_borneOnes_1 11 rfl rfl)
theorem dX4_borneOnes_36 : decode cX4_borneOnes 36 = .ok (.ior, 1) := dk_128 (dk_at dksX4_borneOnes_1 12 rfl rfl)
theorem dX4_borneOnes_37 : decode cX4_borneOnes 37 = .ok (.istore_n 2, 1) := dk_61 (dk_at dksX4_borneOnes_1 13 rfl rfl)
theorem dX4_borneOnes_38 : decode cX4_borneOnes 38 = .ok (.iinc 3 1, 3) := dk_132 3 1 (dk_at dksX4_borneOnes_1 14 rfl rfl)
theorem dX4_borneOnes_41 : decode cX4_borneOnes 41 = .ok (.goto (-37), 3) := dk_167 255 219 (dk_at dksX4_borneOnes_1 17 rfl rfl)
theorem dX4_borneOnes_44 : decode cX4_borneOnes 44 = .ok (.iload_n 2, 1) := dk_28 (dk_at dksX4_borneOnes_1 20 rfl rfl)
theorem dX4_borneOnes_45 : decode cX4_borneOnes 45 = .ok (.ireturn, 1) := dk_172 (dk_at dksX4_borneOnes_1 21 rfl rfl)
abbrev cX4_everybody : ByteArray := prog_12_method_63_code
def yX4_everybody : MethodName := ⟨RX4, "everybody", "()I"⟩
def dkwX4_everybody_0 : List UInt8 := [4, 42, 180, 1, 27, 120, 4, 100, 172]
abbrev dktX4_everybody_0 : List UInt8 := dkwX4_everybody_0 ++ []
theorem dksX4_everybody_0 : cX4_everybody.data.toList.drop 0 = dktX4_everybody_0 := by decide +kernel
theorem dX4_everybody_0 : decode cX4_everybody 0 = .ok (.iconst 1, 1) := dk_4 (dk_at dksX4_everybody_0 0 rfl rfl)
theorem dX4_everybody_1 : decode cX4_everybody 1 = .ok (.aload_n 0, 1) := dk_42 (dk_at dksX4_everybody_0 1 rfl rfl)
theorem dX4_everybody_2 : decode cX4_everybody 2 = .ok (.getfield 283, 3) := dk_180 1 27 (dk_at dksX4_everybody_0 2 rfl rfl)
theorem dX4_everybody_5 : decode cX4_everybody 5 = .ok (.ishl, 1) := dk_120 (dk_at dksX4_everybody_0 5 rfl rfl)
theorem dX4_everybody_6 : decode cX4_everybody 6 = .ok (.iconst 1, 1) := dk_4 (dk_at dksX4_everybody_0 6 rfl rfl)
theorem dX4_everybody_7 : decode cX4_everybody 7 = .ok (.isub, 1) := dk_100 (dk_at dksX4_everybody_0 7 rfl rfl)
theorem dX4_everybody_8 : decode cX4_everybody 8 = .ok (.ireturn, 1) := dk_172 (dk_at dksX4_everybody_0 8 rfl rfl)
abbrev cX4_knownBy : ByteArray := prog_12_method_57_code
def yX4_knownBy : MethodName := ⟨RX4, "knownBy", "(II)I"⟩
def dkwX4_knownBy_2 : List UInt8 := [167, 255, 215, 29, 172]
abbrev dktX4_knownBy_2 : List UInt8 := dkwX4_knownBy_2 ++ []
def dkwX4_knownBy_1 : List UInt8 := [160, 0, 18, 42, 180, 0, 66, 27, 16, 28, 96, 21, 4, 96, 46, 167, 0, 4, 3, 128, 62, 132, 4, 1]
abbrev dktX4_knownBy_1 : List UInt8 := dkwX4_knownBy_1 ++ dktX4_knownBy_2
def dkwX4_knownBy_0 : List UInt8 := [3, 62, 3, 54, 4, 21, 4, 42, 180, 1, 27, 162, 0, 38, 29, 28, 21, 4, 122, 4, 126, 4]
abbrev dktX4_knownBy_0 : List UInt8 := dkwX4_knownBy_0 ++ dktX4_knownBy_1
theorem dksX4_knownBy_0 : cX4_knownBy.data.toList.drop 0 = dktX4_knownBy_0 := by decide +kernel
theorem dksX4_knownBy_1 : cX4_knownBy.data.toList.drop 22 = dktX4_knownBy_1 := dk_seg dksX4_knownBy_0 22 rfl rfl
theorem dksX4_knownBy_2 : cX4_knownBy.data.toList.drop 46 = dktX4_knownBy_2 := dk_seg dksX4_knownBy_1 24 rfl rfl
theorem dX4_knownBy_0 : decode cX4_knownBy 0 = .ok (.iconst 0, 1) := dk_3 (dk_at dksX4_knownBy_0 0 rfl rfl)
theorem dX4_knownBy_1 : decode cX4_knownBy 1 = .ok (.istore_n 3, 1) := dk_62 (dk_at dksX4_knownBy_0 1 rfl rfl)
theorem dX4_knownBy_2 : decode cX4_knownBy 2 = .ok (.iconst 0, 1) := dk_3 (dk_at dksX4_knownBy_0 2 rfl rfl)
theorem dX4_knownBy_3 : decode cX4_knownBy 3 = .ok (.istore 4, 2) := dk_54 4 (dk_at dksX4_knownBy_0 3 rfl rfl)
theorem dX4_knownBy_5 : decode cX4_knownBy 5 = .ok (.iload 4, 2) := dk_21 4 (dk_at dksX4_knownBy_0 5 rfl rfl)
theorem dX4_knownBy_7 : decode cX4_knownBy 7 = .ok (.aload_n 0, 1) := dk_42 (dk_at dksX4_knownBy_0 7 rfl rfl)
theorem dX4_knownBy_8 : decode cX4_knownBy 8 = .ok (.getfield 283, 3) := dk_180 1 27 (dk_at dksX4_knownBy_0 8 rfl rfl)
theorem dX4_knownBy_11 : decode cX4_knownBy 11 = .ok (.if_icmp .ge 38, 3) := dk_162 0 38 (dk_at dksX4_knownBy_0 11 rfl rfl)
theorem dX4_knownBy_14 : decode cX4_knownBy 14 = .ok (.iload_n 3, 1) := dk_29 (dk_at dksX4_knownBy_0 14 rfl rfl)
theorem dX4_knownBy_15 : decode cX4_knownBy 15 = .ok (.iload_n 2, 1) := dk_28 (dk_at dksX4_knownBy_0 15 rfl rfl)
theorem dX4_knownBy_16 : decode cX4_knownBy 16 = .ok (.iload 4, 2) := dk_21 4 (dk_at dksX4_knownBy_0 16 rfl rfl)
theorem dX4_knownBy_18 : decode cX4_knownBy 18 = .ok (.ishr, 1) := dk_122 (dk_at dksX4_knownBy_0 18 rfl rfl)
theorem dX4_knownBy_19 : decode cX4_knownBy 19 = .ok (.iconst 1, 1) := dk_4 (dk_at dksX4_knownBy_0 19 rfl rfl)
theorem dX4_knownBy_20 : decode cX4_knownBy 20 = .ok (.iand, 1) := dk_126 (dk_at dksX4_knownBy_0 20 rfl rfl)
theorem dX4_knownBy_21 : decode cX4_knownBy 21 = .ok (.iconst 1, 1) := dk_4 (dk_at dksX4_knownBy_0 21 rfl rfl)
theorem dX4_knownBy_22 : decode cX4_knownBy 22 = .ok (.if_icmp .ne 18, 3) := dk_160 0 18 (dk_at dksX4_knownBy_1 0 rfl rfl)
theorem dX4_knownBy_25 : decode cX4_knownBy 25 = .ok (.aload_n 0, 1) := dk_42 (dk_at dksX4_knownBy_1 3 rfl rfl)
theorem dX4_knownBy_26 : decode cX4_knownBy 26 = .ok (.getfield 66, 3) := dk_180 0 66 (dk_at dksX4_knownBy_1 4 rfl rfl)
theorem dX4_knownBy_29 : decode cX4_knownBy 29 = .ok (.iload_n 1, 1) := dk_27 (dk_at dksX4_knownBy_1 7 rfl rfl)
theorem dX4_knownBy_30 : decode cX4_knownBy 30 = .ok (.bipush 28, 2) := dk_16 28 (dk_at dksX4_knownBy_1 8 rfl rfl)
theorem dX4_knownBy_32 : decode cX4_knownBy 32 = .ok (.iadd, 1) := dk_96 (dk_at dksX4_knownBy_1 10 rfl rfl)
theorem dX4_knownBy_33 : decode cX4_knownBy 33 = .ok (.iload 4, 2) := dk_21 4 (dk_at dksX4_knownBy_1 11 rfl rfl)
theorem dX4_knownBy_35 : decode cX4_knownBy 35 = .ok (.iadd, 1) := dk_96 (dk_at dksX4_knownBy_1 13 rfl rfl)
theorem dX4_knownBy_36 : decode cX4_knownBy 36 = .ok (.iaload, 1) := dk_46 (dk_at dksX4_knownBy_1 14 rfl rfl)
theorem dX4_knownBy_37 : decode cX4_knownBy 37 = .ok (.goto 4, 3) := dk_167 0 4 (dk_at dksX4_knownBy_1 15 rfl rfl)
theorem dX4_knownBy_40 : decode cX4_knownBy 40 = .ok (.iconst 0, 1) := dk_3 (dk_at dksX4_knownBy_1 18 rfl rfl)
theorem dX4_knownBy_41 : decode cX4_knownBy 41 = .ok (.ior, 1) := dk_128 (dk_at dksX4_knownBy_1 19 rfl rfl)
theorem dX4_knownBy_42 : decode cX4_knownBy 42 = .ok (.istore_n 3, 1) := dk_62 (dk_at dksX4_knownBy_1 20 rfl rfl)
theorem dX4_knownBy_43 : decode cX4_knownBy 43 = .ok (.iinc 4 1, 3) := dk_132 4 1 (dk_at dksX4_knownBy_1 21 rfl rfl)
theorem dX4_knownBy_46 : decode cX4_knownBy 46 = .ok (.goto (-41), 3) := dk_167 255 215 (dk_at dksX4_knownBy_2 0 rfl rfl)
theorem dX4_knownBy_49 : decode cX4_knownBy 49 = .ok (.iload_n 3, 1) := dk_29 (dk_at dksX4_knownBy_2 3 rfl rfl)
theorem dX4_knownBy_50 : decode cX4_knownBy 50 = .ok (.ireturn, 1) := dk_172 (dk_at dksX4_knownBy_2 4 rfl rfl)
abbrev cX4_couples : ByteArray := prog_12_method_66_code
def yX4_couples : MethodName := ⟨RX4, "couples", "()I"⟩
def dkwX4_couples_6 : List UInt8 := [4, 100, 46, 172]
abbrev dktX4_couples_6 : List UInt8 := dkwX4_couples_6 ++ []
def dkwX4_couples_5 : List UInt8 := [42, 180, 0, 78, 27, 21, 4, 79, 132, 1, 1, 167, 255, 129, 42, 180, 0, 78, 4, 42, 180, 1, 24, 120]
abbrev dktX4_couples_5 : List UInt8 := dkwX4_couples_5 ++ dktX4_couples_6
def dkwX4_couples_4 : List UInt8 := [180, 0, 78, 29, 4, 21, 5, 120, 2, 130, 126, 46, 96, 184, 1, 104, 54, 4, 132, 5, 1, 167, 255, 190]
abbrev dktX4_couples_4 : List UInt8 := dkwX4_couples_4 ++ dktX4_couples_5
def dkwX4_couples_3 : List UInt8 := [28, 21, 5, 182, 1, 75, 154, 0, 14, 42, 3, 21, 5, 28, 182, 1, 75, 153, 0, 25, 21, 4, 4, 42]
abbrev dktX4_couples_3 : List UInt8 := dkwX4_couples_3 ++ dktX4_couples_4
def dkwX4_couples_2 : List UInt8 := [96, 54, 5, 21, 5, 42, 180, 1, 24, 162, 0, 63, 29, 21, 5, 122, 4, 126, 4, 160, 0, 47, 42, 3]
abbrev dktX4_couples_2 : List UInt8 := dkwX4_couples_2 ++ dktX4_couples_3
def dkwX4_couples_1 : List UInt8 := [132, 2, 1, 167, 255, 245, 27, 4, 28, 120, 2, 130, 126, 62, 42, 180, 0, 78, 29, 46, 54, 4, 28, 4]
abbrev dktX4_couples_1 : List UInt8 := dkwX4_couples_1 ++ dktX4_couples_2
def dkwX4_couples_0 : List UInt8 := [4, 60, 27, 4, 42, 180, 1, 24, 120, 162, 0, 123, 3, 61, 27, 28, 122, 4, 126, 154, 0, 9]
abbrev dktX4_couples_0 : List UInt8 := dkwX4_couples_0 ++ dktX4_couples_1
theorem dksX4_couples_0 : cX4_couples.data.toList.drop 0 = dktX4_couples_0 := by decide +kernel
theorem dksX4_couples_1 : cX4_couples.data.toList.drop 22 = dktX4_couples_1 := dk_seg dksX4_couples_0 22 rfl rfl
theorem dksX4_couples_2 : cX4_couples.data.toList.drop 46 = dktX4_couples_2 := dk_seg dksX4_couples_1 24 rfl rfl
theorem dksX4_couples_3 : cX4_couples.data.toList.drop 70 = dktX4_couples_3 := dk_seg dksX4_couples_2 24 rfl rfl
theorem dksX4_couples_4 : cX4_couples.data.toList.drop 94 = dktX4_couples_4 := dk_seg dksX4_couples_3 24 rfl rfl
theorem dksX4_couples_5 : cX4_couples.data.toList.drop 118 = dktX4_couples_5 := dk_seg dksX4_couples_4 24 rfl rfl
theorem dksX4_couples_6 : cX4_couples.data.toList.drop 142 = dktX4_couples_6 := dk_seg dksX4_couples_5 24 rfl rfl
theorem dX4_couples_0 : decode cX4_couples 0 = .ok (.iconst 1, 1) := dk_4 (dk_at dksX4_couples_0 0 rfl rfl)
theorem dX4_couples_1 : decode cX4_couples 1 = .ok (.istore_n 1, 1) := dk_60 (dk_at dksX4_couples_0 1 rfl rfl)
theorem dX4_couples_2 : decode cX4_couples 2 = .ok (.iload_n 1, 1) := dk_27 (dk_at dksX4_couples_0 2 rfl rfl)
theorem dX4_couples_3 : decode cX4_couples 3 = .ok (.iconst 1, 1) := dk_4 (dk_at dksX4_couples_0 3 rfl rfl)
theorem dX4_couples_4 : decode cX4_couples 4 = .ok (.aload_n 0, 1) := dk_42 (dk_at dksX4_couples_0 4 rfl rfl)
theorem dX4_couples_5 : decode cX4_couples 5 = .ok (.getfield 280, 3) := dk_180 1 24 (dk_at dksX4_couples_0 5 rfl rfl)
theorem dX4_couples_8 : decode cX4_couples 8 = .ok (.ishl, 1) := dk_120 (dk_at dksX4_couples_0 8 rfl rfl)
theorem dX4_couples_9 : decode cX4_couples 9 = .ok (.if_icmp .ge 123, 3) := dk_162 0 123 (dk_at dksX4_couples_0 9 rfl rfl)
theorem dX4_couples_12 : decode cX4_couples 12 = .ok (.iconst 0, 1) := dk_3 (dk_at dksX4_couples_0 12 rfl rfl)
theorem dX4_couples_13 : decode cX4_couples 13 = .ok (.istore_n 2, 1) := dk_61 (dk_at dksX4_couples_0 13 rfl rfl)
theorem dX4_couples_14 : decode cX4_couples 14 = .ok (.iload_n 1, 1) := dk_27 (dk_at dksX4_couples_0 14 rfl rfl)
theorem dX4_couples_15 : decode cX4_couples 15 = .ok (.iload_n 2, 1) := dk_28 (dk_at dksX4_couples_0 15 rfl rfl)
theorem dX4_couples_16 : decode cX4_couples 16 = .ok (.ishr, 1) := dk_122 (dk_at dksX4_couples_0 16 rfl rfl)
theorem dX4_couples_17 : decode cX4_couples 17 = .ok (.iconst 1, 1) := dk_4 (dk_at dksX4_couples_0 17 rfl rfl)
theorem dX4_couples_18 : decode cX4_couples 18 = .ok (.iand, 1) := dk_126 (dk_at dksX4_couples_0 18 rfl rfl)
theorem dX4_couples_19 : decode cX4_couples 19 = .ok (.ifCond .ne 9, 3) := dk_154 0 9 (dk_at dksX4_couples_0 19 rfl rfl)
theorem dX4_couples_22 : decode cX4_couples 22 = .ok (.iinc 2 1, 3) := dk_132 2 1 (dk_at dksX4_couples_1 0 rfl rfl)
theorem dX4_couples_25 : decode cX4_couples 25 = .ok (.goto (-11), 3) := dk_167 255 245 (dk_at dksX4_couples_1 3 rfl rfl)
theorem dX4_couples_28 : decode cX4_couples 28 = .ok (.iload_n 1, 1) := dk_27 (dk_at dksX4_couples_1 6 rfl rfl)
theorem dX4_couples_29 : decode cX4_couples 29 = .ok (.iconst 1, 1) := dk_4 (dk_at dksX4_couples_1 7 rfl rfl)
theorem dX4_couples_30 : decode cX4_couples 30 = .ok (.iload_n 2, 1) := dk_28 (dk_at dksX4_couples_1 8 rfl rfl)
theorem dX4_couples_31 : decode cX4_couples 31 = .ok (.ishl, 1) := dk_120 (dk_at dksX4_couples_1 9 rfl rfl)
theorem dX4_couples_32 : decode cX4_couples 32 = .ok (.iconst (-1), 1) := dk_2 (dk_at dksX4_couples_1 10 rfl rfl)
theorem dX4_couples_33 : decode cX4_couples 33 = .ok (.ixor, 1) := dk_130 (dk_at dksX4_couples_1 11 rfl rfl)
theorem dX4_couples_34 : decode cX4_couples 34 = .ok (.iand, 1) := dk_126 (dk_at dksX4_couples_1 12 rfl rfl)
theorem dX4_couples_35 : decode cX4_couples 35 = .ok (.istore_n 3, 1) := dk_62 (dk_at dksX4_couples_1 13 rfl rfl)
theorem dX4_couples_36 : decode cX4_couples 36 = .ok (.aload_n 0, 1) := dk_42 (dk_at dksX4_couples_1 14 rfl rfl)
theorem dX4_couples_37 : decode cX4_couples 37 = .ok (.getfield 78, 3) := dk_180 0 78 (dk_at dksX4_couples_1 15 rfl rfl)
theorem dX4_couples_40 : decode cX4_couples 40 = .ok (.iload_n 3, 1) := dk_29 (dk_at dksX4_couples_1 18 rfl rfl)
theorem dX4_couples_41 : decode cX4_couples 41 = .ok (.iaload, 1) := dk_46 (dk_at dksX4_couples_1 19 rfl rfl)
theorem dX4_couples_42 : decode cX4_couples 42 = .ok (.istore 4, 2) := dk_54 4 (dk_at dksX4_couples_1 20 rfl rfl)
theorem dX4_couples_44 : decode cX4_couples 44 = .ok (.iload_n 2, 1) := dk_28 (dk_at dksX4_couples_1 22 rfl rfl)
theorem dX4_couples_45 : decode cX4_couples 45 = .ok (.iconst 1, 1) := dk_4 (dk_at dksX4_couples_1 23 rfl rfl)
theorem dX4_couples_46 : decode cX4_couples 46 = .ok (.iadd, 1) := dk_96 (dk_at dksX4_couples_2 0 rfl rfl)
theorem dX4_couples_47 : decode cX4_couples 47 = .ok (.istore 5, 2) := dk_54 5 (dk_at dksX4_couples_2 1 rfl rfl)
theorem dX4_couples_49 : decode cX4_couples 49 = .ok (.iload 5, 2) := dk_21 5 (dk_at dksX4_couples_2 3 rfl rfl)
theorem dX4_couples_51 : decode cX4_couples 51 = .ok (.aload_n 0, 1) := dk_42 (dk_at dksX4_couples_2 5 rfl rfl)
theorem dX4_couples_52 : decode cX4_couples 52 = .ok (.getfield 280, 3) := dk_180 1 24 (dk_at dksX4_couples_2 6 rfl rfl)
theorem dX4_couples_55 : decode cX4_couples 55 = .ok (.if_icmp .ge 63, 3) := dk_162 0 63 (dk_at dksX4_couples_2 9 rfl rfl)
theorem dX4_couples_58 : decode cX4_couples 58 = .ok (.iload_n 3, 1) := dk_29 (dk_at dksX4_couples_2 12 rfl rfl)
theorem dX4_couples_59 : decode cX4_couples 59 = .ok (.iload 5, 2) := dk_21 5 (dk_at dksX4_couples_2 13 rfl rfl)
theorem dX4_couples_61 : decode cX4_couples 61 = .ok (.ishr, 1) := dk_122 (dk_at dksX4_couples_2 15 rfl rfl)
theorem dX4_couples_62 : decode cX4_couples 62 = .ok (.iconst 1, 1) := dk_4 (dk_at dksX4_couples_2 16 rfl rfl)
theorem dX4_couples_63 : decode cX4_couples 63 = .ok (.iand, 1) := dk_126 (dk_at dksX4_couples_2 17 rfl rfl)
theorem dX4_couples_64 : decode cX4_couples 64 = .ok (.iconst 1, 1) := dk_4 (dk_at dksX4_couples_2 18 rfl rfl)
theorem dX4_couples_65 : decode cX4_couples 65 = .ok (.if_icmp .ne 47, 3) := dk_160 0 47 (dk_at dksX4_couples_2 19 rfl rfl)
theorem dX4_couples_68 : decode cX4_couples 68 = .ok (.aload_n 0, 1) := dk_42 (dk_at dksX4_couples_2 22 rfl rfl)
theorem dX4_couples_69 : decode cX4_couples 69 = .ok (.iconst 0, 1) := dk_3 (dk_at dksX4_couples_2 23 rfl rfl)
theorem dX4_couples_70 : decode cX4_couples 70 = .ok (.iload_n 2, 1) := dk_28 (dk_at dksX4_couples_3 0 rfl rfl)
theorem dX4_couples_71 : decode cX4_couples 71 = .ok (.iload 5, 2) := dk_21 5 (dk_at dksX4_couples_3 1 rfl rfl)
theorem dX4_couples_73 : decode cX4_couples 73 = .ok (.invokevirtual 331, 3) := dk_182 1 75 (dk_at dksX4_couples_3 3 rfl rfl)
theorem dX4_couples_76 : decode cX4_couples 76 = .ok (.ifCond .ne 14, 3) := dk_154 0 14 (dk_at dksX4_couples_3 6 rfl rfl)
theorem dX4_couples_79 : decode cX4_couples 79 = .ok (.aload_n 0, 1) := dk_42 (dk_at dksX4_couples_3 9 rfl rfl)
theorem dX4_couples_80 : decode cX4_couples 80 = .ok (.iconst 0, 1) := dk_3 (dk_at dksX4_couples_3 10 rfl rfl)
theorem dX4_couples_81 : decode cX4_couples 81 = .ok (.iload 5, 2) := dk_21 5 (dk_at dksX4_couples_3 11 rfl rfl)
theorem dX4_couples_83 : decode cX4_couples 83 = .ok (.iload_n 2, 1) := dk_28 (dk_at dksX4_couples_3 13 rfl rfl)
theorem dX4_couples_84 : decode cX4_couples 84 = .ok (.invokevirtual 331, 3) := dk_182 1 75 (dk_at dksX4_couples_3 14 rfl rfl)
theorem dX4_couples_87 : decode cX4_couples 87 = .ok (.ifCond .eq 25, 3) := dk_153 0 25 (dk_at dksX4_couples_3 17 rfl rfl)
theorem dX4_couples_90 : decode cX4_couples 90 = .ok (.iload 4, 2) := dk_21 4 (dk_at dksX4_couples_3 20 rfl rfl)
theorem dX4_couples_92 : decode cX4_couples 92 = .ok (.iconst 1, 1) := dk_4 (dk_at dksX4_couples_3 22 rfl rfl)
theorem dX4_couples_93 : decode cX4_couples 93 = .ok (.aload_n 0, 1) := dk_42 (dk_at dksX4_couples_3 23 rfl rfl)
theorem dX4_couples_94 : decode cX4_couples 94 = .ok (.getfield 78, 3) := dk_180 0 78 (dk_at dksX4_couples_4 0 rfl rfl)
theorem dX4_couples_97 : decode cX4_couples 97 = .ok (.iload_n 3, 1) := dk_29 (dk_at dksX4_couples_4 3 rfl rfl)
theorem dX4_couples_98 : decode cX4_couples 98 = .ok (.iconst 1, 1) := dk_4 (dk_at dksX4_couples_4 4 rfl rfl)
theorem dX4_couples_99 : decode cX4_couples 99 = .ok (.iload 5, 2) := dk_21 5 (dk_at dksX4_couples_4 5 rfl rfl)
theorem dX4_couples_101 : decode cX4_couples 101 = .ok (.ishl, 1) := dk_120 (dk_at dksX4_couples_4 7 rfl rfl)
theorem dX4_couples_102 : decode cX4_couples 102 = .ok (.iconst (-1), 1) := dk_2 (dk_at dksX4_couples_4 8 rfl rfl)
theorem dX4_couples_103 : decode cX4_couples 103 = .ok (.ixor, 1) := dk_130 (dk_at dksX4_couples_4 9 rfl rfl)
theorem dX4_couples_104 : decode cX4_couples 104 = .ok (.iand, 1) := dk_126 (dk_at dksX4_couples_4 10 rfl rfl)
theorem dX4_couples_105 : decode cX4_couples 105 = .ok (.iaload, 1) := dk_46 (dk_at dksX4_couples_4 11 rfl rfl)
theorem dX4_couples_106 : decode cX4_couples 106 = .ok (.iadd, 1) := dk_96 (dk_at dksX4_couples_4 12 rfl rfl)
theorem dX4_couples_107 : decode cX4_couples 107 = .ok (.invokestatic 360, 3) := dk_184 1 104 (dk_at dksX4_couples_4 13 rfl rfl)
theorem dX4_couples_110 : decode cX4_couples 110 = .ok (.istore 4, 2) := dk_54 4 (dk_at dksX4_couples_4 16 rfl rfl)
theorem dX4_couples_112 : decode cX4_couples 112 = .ok (.iinc 5 1, 3) := dk_132 5 1 (dk_at dksX4_couples_4 18 rfl rfl)
theorem dX4_couples_115 : decode cX4_couples 115 = .ok (.goto (-66), 3) := dk_167 255 190 (dk_at dksX4_couples_4 21 rfl rfl)
theorem dX4_couples_118 : decode cX4_couples 118 = .ok (.aload_n 0, 1) := dk_42 (dk_at dksX4_couples_5 0 rfl rfl)
theorem dX4_couples_119 : decode cX4_couples 119 = .ok (.getfield 78, 3) := dk_180 0 78 (dk_at dksX4_couples_5 1 rfl rfl)
theorem dX4_couples_122 : decode cX4_couples 122 = .ok (.iload_n 1, 1) := dk_27 (dk_at dksX4_couples_5 4 rfl rfl)
theorem dX4_couples_123 : decode cX4_couples 123 = .ok (.iload 4, 2) := dk_21 4 (dk_at dksX4_couples_5 5 rfl rfl)
theorem dX4_couples_125 : decode cX4_couples 125 = .ok (.iastore, 1) := dk_79 (dk_at dksX4_couples_5 7 rfl rfl)
theorem dX4_couples_126 : decode cX4_couples 126 = .ok (.iinc 1 1, 3) := dk_132 1 1 (dk_at dksX4_couples_5 8 rfl rfl)
theorem dX4_couples_129 : decode cX4_couples 129 = .ok (.goto (-127), 3) := dk_167 255 129 (dk_at dksX4_couples_5 11 rfl rfl)
theorem dX4_couples_132 : decode cX4_couples 132 = .ok (.aload_n 0, 1) := dk_42 (dk_at dksX4_couples_5 14 rfl rfl)
theorem dX4_couples_133 : decode cX4_couples 133 = .ok (.getfield 78, 3) := dk_180 0 78 (dk_at dksX4_couples_5 15 rfl rfl)
theorem dX4_couples_136 : decode cX4_couples 136 = .ok (.iconst 1, 1) := dk_4 (dk_at dksX4_couples_5 18 rfl rfl)
theorem dX4_couples_137 : decode cX4_couples 137 = .ok (.aload_n 0, 1) := dk_42 (dk_at dksX4_couples_5 19 rfl rfl)
theorem dX4_couples_138 : decode cX4_couples 138 = .ok (.getfield 280, 3) := dk_180 1 24 (dk_at dksX4_couples_5 20 rfl rfl)
theorem dX4_couples_141 : decode cX4_couples 141 = .ok (.ishl, 1) := dk_120 (dk_at dksX4_couples_5 23 rfl rfl)
theorem dX4_couples_142 : decode cX4_couples 142 = .ok (.iconst 1, 1) := dk_4 (dk_at dksX4_couples_6 0 rfl rfl)
theorem dX4_couples_143 : decode cX4_couples 143 = .ok (.isub, 1) := dk_100 (dk_at dksX4_couples_6 1 rfl rfl)
theorem dX4_couples_144 : decode cX4_couples 144 = .ok (.iaload, 1) := dk_46 (dk_at dksX4_couples_6 2 rfl rfl)
theorem dX4_couples_145 : decode cX4_couples 145 = .ok (.ireturn, 1) := dk_172 (dk_at dksX4_couples_6 3 rfl rfl)
abbrev cX4_doesFit : ByteArray := prog_12_method_53_code
def yX4_doesFit : MethodName := ⟨RX4, "doesFit", "(III)Z"⟩
def dkwX4_doesFit_1 : List UInt8 := [27, 28, 29, 182, 1, 66, 42, 180, 1, 33, 163, 0, 7, 4, 167, 0, 4, 3, 172]
abbrev dktX4_doesFit_1 : List UInt8 := dkwX4_doesFit_1 ++ []
def dkwX4_doesFit_0 : List UInt8 := [28, 29, 159, 0, 39, 42, 27, 28, 182, 1, 63, 154, 0, 30, 42, 27, 29, 182, 1, 63, 154, 0, 21, 42]
abbrev dktX4_doesFit_0 : List UInt8 := dkwX4_doesFit_0 ++ dktX4_doesFit_1
theorem dksX4_doesFit_0 : cX4_doesFit.data.toList.drop 0 = dktX4_doesFit_0 := by decide +kernel
theorem dksX4_doesFit_1 : cX4_doesFit.data.toList.drop 24 = dktX4_doesFit_1 := dk_seg dksX4_doesFit_0 24 rfl rfl
theorem dX4_doesFit_0 : decode cX4_doesFit 0 = .ok (.iload_n 2, 1) := dk_28 (dk_at dksX4_doesFit_0 0 rfl rfl)
theorem dX4_doesFit_1 : decode cX4_doesFit 1 = .ok (.iload_n 3, 1) := dk_29 (dk_at dksX4_doesFit_0 1 rfl rfl)
theorem dX4_doesFit_2 : decode cX4_doesFit 2 = .ok (.if_icmp .eq 39, 3) := dk_159 0 39 (dk_at dksX4_doesFit_0 2 rfl rfl)
theorem dX4_doesFit_5 : decode cX4_doesFit 5 = .ok (.aload_n 0, 1) := dk_42 (dk_at dksX4_doesFit_0 5 rfl rfl)
theorem dX4_doesFit_6 : decode cX4_doesFit 6 = .ok (.iload_n 1, 1) := dk_27 (dk_at dksX4_doesFit_0 6 rfl rfl)
theorem dX4_doesFit_7 : decode cX4_doesFit 7 = .ok (.iload_n 2, 1) := dk_28 (dk_at dksX4_doesFit_0 7 rfl rfl)
theorem dX4_doesFit_8 : decode cX4_doesFit 8 = .ok (.invokevirtual 319, 3) := dk_182 1 63 (dk_at dksX4_doesFit_0 8 rfl rfl)
theorem dX4_doesFit_11 : decode cX4_doesFit 11 = .ok (.ifCond .ne 30, 3) := dk_154 0 30 (dk_at dksX4_doesFit_0 11 rfl rfl)
theorem dX4_doesFit_14 : decode cX4_doesFit 14 = .ok (.aload_n 0, 1) := dk_42 (dk_at dksX4_doesFit_0 14 rfl rfl)
theorem dX4_doesFit_15 : decode cX4_doesFit 15 = .ok (.iload_n 1, 1) := dk_27 (dk_at dksX4_doesFit_0 15 rfl rfl)
theorem dX4_doesFit_16 : decode cX4_doesFit 16 = .ok (.iload_n 3, 1) := dk_29 (dk_at dksX4_doesFit_0 16 rfl rfl)
theorem dX4_doesFit_17 : decode cX4_doesFit 17 = .ok (.invokevirtual 319, 3) := dk_182 1 63 (dk_at dksX4_doesFit_0 17 rfl rfl)
theorem dX4_doesFit_20 : decode cX4_doesFit 20 = .ok (.ifCond .ne 21, 3) := dk_154 0 21 (dk_at dksX4_doesFit_0 20 rfl rfl)
theorem dX4_doesFit_23 : decode cX4_doesFit 23 = .ok (.aload_n 0, 1) := dk_42 (dk_at dksX4_doesFit_0 23 rfl rfl)
theorem dX4_doesFit_24 : decode cX4_doesFit 24 = .ok (.iload_n 1, 1) := dk_27 (dk_at dksX4_doesFit_1 0 rfl rfl)
theorem dX4_doesFit_25 : decode cX4_doesFit 25 = .ok (.iload_n 2, 1) := dk_28 (dk_at dksX4_doesFit_1 1 rfl rfl)
theorem dX4_doesFit_26 : decode cX4_doesFit 26 = .ok (.iload_n 3, 1) := dk_29 (dk_at dksX4_doesFit_1 2 rfl rfl)
theorem dX4_doesFit_27 : decode cX4_doesFit 27 = .ok (.invokevirtual 322, 3) := dk_182 1 66 (dk_at dksX4_doesFit_1 3 rfl rfl)
theorem dX4_doesFit_30 : decode cX4_doesFit 30 = .ok (.aload_n 0, 1) := dk_42 (dk_at dksX4_doesFit_1 6 rfl rfl)
theorem dX4_doesFit_31 : decode cX4_doesFit 31 = .ok (.getfield 289, 3) := dk_180 1 33 (dk_at dksX4_doesFit_1 7 rfl rfl)
theorem dX4_doesFit_34 : decode cX4_doesFit 34 = .ok (.if_icmp .gt 7, 3) := dk_163 0 7 (dk_at dksX4_doesFit_1 10 rfl rfl)
theorem dX4_doesFit_37 : decode cX4_doesFit 37 = .ok (.iconst 1, 1) := dk_4 (dk_at dksX4_doesFit_1 13 rfl rfl)
theorem dX4_doesFit_38 : decode cX4_doesFit 38 = .ok (.goto 4, 3) := dk_167 0 4 (dk_at dksX4_doesFit_1 14 rfl rfl)
theorem dX4_doesFit_41 : decode cX4_doesFit 41 = .ok (.iconst 0, 1) := dk_3 (dk_at dksX4_doesFit_1 17 rfl rfl)
theorem dX4_doesFit_42 : decode cX4_doesFit 42 = .ok (.ireturn, 1) := dk_172 (dk_at dksX4_doesFit_1 18 rfl rfl)
abbrev cX4_offBy : ByteArray := prog_12_method_52_code
def yX4_offBy : MethodName := ⟨RX4, "offBy", "(III)I"⟩
def dkwX4_offBy_1 : List UInt8 := [184, 1, 60, 172]
abbrev dktX4_offBy_1 : List UInt8 := dkwX4_offBy_1 ++ []
def dkwX4_offBy_0 : List UInt8 := [42, 180, 0, 66, 27, 16, 10, 96, 28, 96, 46, 42, 180, 0, 66, 27, 4, 96, 29, 96, 46, 130]
abbrev dktX4_offBy_0 : List UInt8 := dkwX4_offBy_0 ++ dktX4_offBy_1
theorem dksX4_offBy_0 : cX4_offBy.data.toList.drop 0 = dktX4_offBy_0 := by decide +kernel
theorem dksX4_offBy_1 : cX4_offBy.data.toList.drop 22 = dktX4_offBy_1 := dk_seg dksX4_offBy_0 22 rfl rfl
theorem dX4_offBy_0 : decode cX4_offBy 0 = .ok (.aload_n 0, 1) := dk_42 (dk_at dksX4_offBy_0 0 rfl rfl)
theorem dX4_offBy_1 : decode cX4_offBy 1 = .ok (.getfield 66, 3) := dk_180 0 66 (dk_at dksX4_offBy_0 1 rfl rfl)
theorem dX4_offBy_4 : decode cX4_offBy 4 = .ok (.iload_n 1, 1) := dk_27 (dk_at dksX4_offBy_0 4 rfl rfl)
theorem dX4_offBy_5 : decode cX4_offBy 5 = .ok (.bipush 10, 2) := dk_16 10 (dk_at dksX4_offBy_0 5 rfl rfl)
theorem dX4_offBy_7 : decode cX4_offBy 7 = .ok (.iadd, 1) := dk_96 (dk_at dksX4_offBy_0 7 rfl rfl)
theorem dX4_offBy_8 : decode cX4_offBy 8 = .ok (.iload_n 2, 1) := dk_28 (dk_at dksX4_offBy_0 8 rfl rfl)
theorem dX4_offBy_9 : decode cX4_offBy 9 = .ok (.iadd, 1) := dk_96 (dk_at dksX4_offBy_0 9 rfl rfl)
theorem dX4_offBy_10 : decode cX4_offBy 10 = .ok (.iaload, 1) := dk_46 (dk_at dksX4_offBy_0 10 rfl rfl)
theorem dX4_offBy_11 : decode cX4_offBy 11 = .ok (.aload_n 0, 1) := dk_42 (dk_at dksX4_offBy_0 11 rfl rfl)
theorem dX4_offBy_12 : decode cX4_offBy 12 = .ok (.getfield 66, 3) := dk_180 0 66 (dk_at dksX4_offBy_0 12 rfl rfl)
theorem dX4_offBy_15 : decode cX4_offBy 15 = .ok (.iload_n 1, 1) := dk_27 (dk_at dksX4_offBy_0 15 rfl rfl)
theorem dX4_offBy_16 : decode cX4_offBy 16 = .ok (.iconst 1, 1) := dk_4 (dk_at dksX4_offBy_0 16 rfl rfl)
theorem dX4_offBy_17 : decode cX4_offBy 17 = .ok (.iadd, 1) := dk_96 (dk_at dksX4_offBy_0 17 rfl rfl)
theorem dX4_offBy_18 : decode cX4_offBy 18 = .ok (.iload_n 3, 1) := dk_29 (dk_at dksX4_offBy_0 18 rfl rfl)
theorem dX4_offBy_19 : decode cX4_offBy 19 = .ok (.iadd, 1) := dk_96 (dk_at dksX4_offBy_0 19 rfl rfl)
theorem dX4_offBy_20 : decode cX4_offBy 20 = .ok (.iaload, 1) := dk_46 (dk_at dksX4_offBy_0 20 rfl rfl)
theorem dX4_offBy_21 : decode cX4_offBy 21 = .ok (.ixor, 1) := dk_130 (dk_at dksX4_offBy_0 21 rfl rfl)
theorem dX4_offBy_22 : decode cX4_offBy 22 = .ok (.invokestatic 316, 3) := dk_184 1 60 (dk_at dksX4_offBy_1 0 rfl rfl)
theorem dX4_offBy_25 : decode cX4_offBy 25 = .ok (.ireturn, 1) := dk_172 (dk_at dksX4_offBy_1 3 rfl rfl)
abbrev cX4_bits : ByteArray := prog_12_method_7_code
def yX4_bits : MethodName := ⟨RX4, "bits", "(I)I"⟩
def dkwX4_bits_1 : List UInt8 := [27, 172]
abbrev dktX4_bits_1 : List UInt8 := dkwX4_bits_1 ++ []
def dkwX4_bits_0 : List UInt8 := [3, 60, 3, 61, 28, 16, 12, 162, 0, 17, 27, 26, 28, 122, 4, 126, 96, 60, 132, 2, 1, 167, 255, 239]
abbrev dktX4_bits_0 : List UInt8 := dkwX4_bits_0 ++ dktX4_bits_1
theorem dksX4_bits_0 : cX4_bits.data.toList.drop 0 = dktX4_bits_0 := by decide +kernel
theorem dksX4_bits_1 : cX4_bits.data.toList.drop 24 = dktX4_bits_1 := dk_seg dksX4_bits_0 24 rfl rfl
theorem dX4_bits_0 : decode cX4_bits 0 = .ok (.iconst 0, 1) := dk_3 (dk_at dksX4_bits_0 0 rfl rfl)
theorem dX4_bits_1 : decode cX4_bits 1 = .ok (.istore_n 1, 1) := dk_60 (dk_at dksX4_bits_0 1 rfl rfl)
theorem dX4_bits_2 : decode cX4_bits 2 = .ok (.iconst 0, 1) := dk_3 (dk_at dksX4_bits_0 2 rfl rfl)
theorem dX4_bits_3 : decode cX4_bits 3 = .ok (.istore_n 2, 1) := dk_61 (dk_at dksX4_bits_0 3 rfl rfl)
theorem dX4_bits_4 : decode cX4_bits 4 = .ok (.iload_n 2, 1) := dk_28 (dk_at dksX4_bits_0 4 rfl rfl)
theorem dX4_bits_5 : decode cX4_bits 5 = .ok (.bipush 12, 2) := dk_16 12 (dk_at dksX4_bits_0 5 rfl rfl)
theorem dX4_bits_7 : decode cX4_bits 7 = .ok (.if_icmp .ge 17, 3) := dk_162 0 17 (dk_at dksX4_bits_0 7 rfl rfl)
theorem dX4_bits_10 : decode cX4_bits 10 = .ok (.iload_n 1, 1) := dk_27 (dk_at dksX4_bits_0 10 rfl rfl)
theorem dX4_bits_11 : decode cX4_bits 11 = .ok (.iload_n 0, 1) := dk_26 (dk_at dksX4_bits_0 11 rfl rfl)
theorem dX4_bits_12 : decode cX4_bits 12 = .ok (.iload_n 2, 1) := dk_28 (dk_at dksX4_bits_0 12 rfl rfl)
theorem dX4_bits_13 : decode cX4_bits 13 = .ok (.ishr, 1) := dk_122 (dk_at dksX4_bits_0 13 rfl rfl)
theorem dX4_bits_14 : decode cX4_bits 14 = .ok (.iconst 1, 1) := dk_4 (dk_at dksX4_bits_0 14 rfl rfl)
theorem dX4_bits_15 : decode cX4_bits 15 = .ok (.iand, 1) := dk_126 (dk_at dksX4_bits_0 15 rfl rfl)
theorem dX4_bits_16 : decode cX4_bits 16 = .ok (.iadd, 1) := dk_96 (dk_at dksX4_bits_0 16 rfl rfl)
theorem dX4_bits_17 : decode cX4_bits 17 = .ok (.istore_n 1, 1) := dk_60 (dk_at dksX4_bits_0 17 rfl rfl)
theorem dX4_bits_18 : decode cX4_bits 18 = .ok (.iinc 2 1, 3) := dk_132 2 1 (dk_at dksX4_bits_0 18 rfl rfl)
theorem dX4_bits_21 : decode cX4_bits 21 = .ok (.goto (-17), 3) := dk_167 255 239 (dk_at dksX4_bits_0 21 rfl rfl)
theorem dX4_bits_24 : decode cX4_bits 24 = .ok (.iload_n 1, 1) := dk_27 (dk_at dksX4_bits_1 0 rfl rfl)
theorem dX4_bits_25 : decode cX4_bits 25 = .ok (.ireturn, 1) := dk_172 (dk_at dksX4_bits_1 1 rfl rfl)
abbrev cX4_greater : ByteArray := prog_12_method_5_code
def yX4_greater : MethodName := ⟨RX4, "greater", "(II)I"⟩
def dkwX4_greater_0 : List UInt8 := [26, 27, 164, 0, 7, 26, 167, 0, 4, 27, 172]
abbrev dktX4_greater_0 : List UInt8 := dkwX4_greater_0 ++ []
theorem dksX4_greater_0 : cX4_greater.data.toList.drop 0 = dktX4_greater_0 := by decide +kernel
theorem dX4_greater_0 : decode cX4_greater 0 = .ok (.iload_n 0, 1) := dk_26 (dk_at dksX4_greater_0 0 rfl rfl)
theorem dX4_greater_1 : decode cX4_greater 1 = .ok (.iload_n 1, 1) := dk_27 (dk_at dksX4_greater_0 1 rfl rfl)
theorem dX4_greater_2 : decode cX4_greater 2 = .ok (.if_icmp .le 7, 3) := dk_164 0 7 (dk_at dksX4_greater_0 2 rfl rfl)
theorem dX4_greater_5 : decode cX4_greater 5 = .ok (.iload_n 0, 1) := dk_26 (dk_at dksX4_greater_0 5 rfl rfl)
theorem dX4_greater_6 : decode cX4_greater 6 = .ok (.goto 4, 3) := dk_167 0 4 (dk_at dksX4_greater_0 6 rfl rfl)
theorem dX4_greater_9 : decode cX4_greater 9 = .ok (.iload_n 1, 1) := dk_27 (dk_at dksX4_greater_0 9 rfl rfl)
theorem dX4_greater_10 : decode cX4_greater 10 = .ok (.ireturn, 1) := dk_172 (dk_at dksX4_greater_0 10 rfl rfl)
abbrev cX4_sheet : ByteArray := prog_12_method_75_code
def yX4_sheet : MethodName := ⟨RX4, "sheet", "(II)I"⟩
def dkwX4_sheet_5 : List UInt8 := [180, 0, 66, 16, 19, 27, 96, 46, 16, 10, 100, 172, 42, 27, 182, 1, 128, 172]
abbrev dktX4_sheet_5 : List UInt8 := dkwX4_sheet_5 ++ []
def dkwX4_sheet_4 : List UInt8 := [182, 1, 69, 172, 42, 180, 0, 66, 16, 19, 27, 96, 46, 16, 10, 162, 0, 7, 2, 167, 0, 15, 42]
abbrev dktX4_sheet_4 : List UInt8 := dkwX4_sheet_4 ++ dktX4_sheet_5
def dkwX4_sheet_3 : List UInt8 := [42, 180, 0, 66, 4, 27, 96, 46, 172, 42, 180, 0, 66, 16, 10, 27, 96, 46, 172, 42, 3, 27]
abbrev dktX4_sheet_3 : List UInt8 := dkwX4_sheet_3 ++ dktX4_sheet_4
def dkwX4_sheet_2 : List UInt8 := [170, 0, 0, 0, 0, 0, 88, 0, 0, 0, 0, 0, 0, 0, 3, 0, 0, 0, 31, 0, 0, 0, 40, 0, 0, 0, 50, 0, 0, 0, 57]
abbrev dktX4_sheet_2 : List UInt8 := dkwX4_sheet_2 ++ dktX4_sheet_3
def dkwX4_sheet_1 : List UInt8 := [28]
abbrev dktX4_sheet_1 : List UInt8 := dkwX4_sheet_1 ++ dktX4_sheet_2
def dkwX4_sheet_0 : List UInt8 := [42, 3, 181, 0, 102, 42, 27, 182, 1, 122, 153, 0, 12, 42, 28, 7, 182, 1, 125, 154, 0, 5, 3, 172]
abbrev dktX4_sheet_0 : List UInt8 := dkwX4_sheet_0 ++ dktX4_sheet_1
theorem dksX4_sheet_0 : cX4_sheet.data.toList.drop 0 = dktX4_sheet_0 := by decide +kernel
theorem dksX4_sheet_1 : cX4_sheet.data.toList.drop 24 = dktX4_sheet_1 := dk_seg dksX4_sheet_0 24 rfl rfl
theorem dksX4_sheet_2 : cX4_sheet.data.toList.drop 25 = dktX4_sheet_2 := dk_seg dksX4_sheet_1 1 rfl rfl
theorem dksX4_sheet_3 : cX4_sheet.data.toList.drop 56 = dktX4_sheet_3 := dk_seg dksX4_sheet_2 31 rfl rfl
theorem dksX4_sheet_4 : cX4_sheet.data.toList.drop 78 = dktX4_sheet_4 := dk_seg dksX4_sheet_3 22 rfl rfl
theorem dksX4_sheet_5 : cX4_sheet.data.toList.drop 101 = dktX4_sheet_5 := dk_seg dksX4_sheet_4 23 rfl rfl
theorem dX4_sheet_0 : decode cX4_sheet 0 = .ok (.aload_n 0, 1) := dk_42 (dk_at dksX4_sheet_0 0 rfl rfl)
theorem dX4_sheet_1 : decode cX4_sheet 1 = .ok (.iconst 0, 1) := dk_3 (dk_at dksX4_sheet_0 1 rfl rfl)
theorem dX4_sheet_2 : decode cX4_sheet 2 = .ok (.putfield 102, 3) := dk_181 0 102 (dk_at dksX4_sheet_0 2 rfl rfl)
theorem dX4_sheet_5 : decode cX4_sheet 5 = .ok (.aload_n 0, 1) := dk_42 (dk_at dksX4_sheet_0 5 rfl rfl)
theorem dX4_sheet_6 : decode cX4_sheet 6 = .ok (.iload_n 1, 1) := dk_27 (dk_at dksX4_sheet_0 6 rfl rfl)
theorem dX4_sheet_7 : decode cX4_sheet 7 = .ok (.invokevirtual 378, 3) := dk_182 1 122 (dk_at dksX4_sheet_0 7 rfl rfl)
theorem dX4_sheet_10 : decode cX4_sheet 10 = .ok (.ifCond .eq 12, 3) := dk_153 0 12 (dk_at dksX4_sheet_0 10 rfl rfl)
theorem dX4_sheet_13 : decode cX4_sheet 13 = .ok (.aload_n 0, 1) := dk_42 (dk_at dksX4_sheet_0 13 rfl rfl)
theorem dX4_sheet_14 : decode cX4_sheet 14 = .ok (.iload_n 2, 1) := dk_28 (dk_at dksX4_sheet_0 14 rfl rfl)
theorem dX4_sheet_15 : decode cX4_sheet 15 = .ok (.iconst 4, 1) := dk_7 (dk_at dksX4_sheet_0 15 rfl rfl)
theorem dX4_sheet_16 : decode cX4_sheet 16 = .ok (.invokevirtual 381, 3) := dk_182 1 125 (dk_at dksX4_sheet_0 16 rfl rfl)
theorem dX4_sheet_19 : decode cX4_sheet 19 = .ok (.ifCond .ne 5, 3) := dk_154 0 5 (dk_at dksX4_sheet_0 19 rfl rfl)
theorem dX4_sheet_22 : decode cX4_sheet 22 = .ok (.iconst 0, 1) := dk_3 (dk_at dksX4_sheet_0 22 rfl rfl)
theorem dX4_sheet_23 : decode cX4_sheet 23 = .ok (.ireturn, 1) := dk_172 (dk_at dksX4_sheet_0 23 rfl rfl)
theorem dX4_sheet_24 : decode cX4_sheet 24 = .ok (.iload_n 2, 1) := dk_28 (dk_at dksX4_sheet_1 0 rfl rfl)
theorem dX4_sheet_25 : decode cX4_sheet 25 = .ok (.tableswitch 88 0 3 #[31, 40, 50, 57], 31) := by decide +kernel
theorem dX4_sheet_56 : decode cX4_sheet 56 = .ok (.aload_n 0, 1) := dk_42 (dk_at dksX4_sheet_3 0 rfl rfl)
theorem dX4_sheet_57 : decode cX4_sheet 57 = .ok (.getfield 66, 3) := dk_180 0 66 (dk_at dksX4_sheet_3 1 rfl rfl)
theorem dX4_sheet_60 : decode cX4_sheet 60 = .ok (.iconst 1, 1) := dk_4 (dk_at dksX4_sheet_3 4 rfl rfl)
theorem dX4_sheet_61 : decode cX4_sheet 61 = .ok (.iload_n 1, 1) := dk_27 (dk_at dksX4_sheet_3 5 rfl rfl)
theorem dX4_sheet_62 : decode cX4_sheet 62 = .ok (.iadd, 1) := dk_96 (dk_at dksX4_sheet_3 6 rfl rfl)
theorem dX4_sheet_63 : decode cX4_sheet 63 = .ok (.iaload, 1) := dk_46 (dk_at dksX4_sheet_3 7 rfl rfl)
theorem dX4_sheet_64 : decode cX4_sheet 64 = .ok (.ireturn, 1) := dk_172 (dk_at dksX4_sheet_3 8 rfl rfl)
theorem dX4_sheet_65 : decode cX4_sheet 65 = .ok (.aload_n 0, 1) := dk_42 (dk_at dksX4_sheet_3 9 rfl rfl)
theorem dX4_sheet_66 : decode cX4_sheet 66 = .ok (.getfield 66, 3) := dk_180 0 66 (dk_at dksX4_sheet_3 10 rfl rfl)
theorem dX4_sheet_69 : decode cX4_sheet 69 = .ok (.bipush 10, 2) := dk_16 10 (dk_at dksX4_sheet_3 13 rfl rfl)
theorem dX4_sheet_71 : decode cX4_sheet 71 = .ok (.iload_n 1, 1) := dk_27 (dk_at dksX4_sheet_3 15 rfl rfl)
theorem dX4_sheet_72 : decode cX4_sheet 72 = .ok (.iadd, 1) := dk_96 (dk_at dksX4_sheet_3 16 rfl rfl)
theorem dX4_sheet_73 : decode cX4_sheet 73 = .ok (.iaload, 1) := dk_46 (dk_at dksX4_sheet_3 17 rfl rfl)
theorem dX4_sheet_74 : decode cX4_sheet 74 = .ok (.ireturn, 1) := dk_172 (dk_at dksX4_sheet_3 18 rfl rfl)
theorem dX4_sheet_75 : decode cX4_sheet 75 = .ok (.aload_n 0, 1) := dk_42 (dk_at dksX4_sheet_3 19 rfl rfl)
theorem dX4_sheet_76 : decode cX4_sheet 76 = .ok (.iconst 0, 1) := dk_3 (dk_at dksX4_sheet_3 20 rfl rfl)
theorem dX4_sheet_77 : decode cX4_sheet 77 = .ok (.iload_n 1, 1) := dk_27 (dk_at dksX4_sheet_3 21 rfl rfl)
theorem dX4_sheet_78 : decode cX4_sheet 78 = .ok (.invokevirtual 325, 3) := dk_182 1 69 (dk_at dksX4_sheet_4 0 rfl rfl)
theorem dX4_sheet_81 : decode cX4_sheet 81 = .ok (.ireturn, 1) := dk_172 (dk_at dksX4_sheet_4 3 rfl rfl)
theorem dX4_sheet_82 : decode cX4_sheet 82 = .ok (.aload_n 0, 1) := dk_42 (dk_at dksX4_sheet_4 4 rfl rfl)
theorem dX4_sheet_83 : decode cX4_sheet 83 = .ok (.getfield 66, 3) := dk_180 0 66 (dk_at dksX4_sheet_4 5 rfl rfl)
theorem dX4_sheet_86 : decode cX4_sheet 86 = .ok (.bipush 19, 2) := dk_16 19 (dk_at dksX4_sheet_4 8 rfl rfl)
theorem dX4_sheet_88 : decode cX4_sheet 88 = .ok (.iload_n 1, 1) := dk_27 (dk_at dksX4_sheet_4 10 rfl rfl)
theorem dX4_sheet_89 : decode cX4_sheet 89 = .ok (.iadd, 1) := dk_96 (dk_at dksX4_sheet_4 11 rfl rfl)
theorem dX4_sheet_90 : decode cX4_sheet 90 = .ok (.iaload, 1) := dk_46 (dk_at dksX4_sheet_4 12 rfl rfl)
theorem dX4_sheet_91 : decode cX4_sheet 91 = .ok (.bipush 10, 2) := dk_16 10 (dk_at dksX4_sheet_4 13 rfl rfl)
theorem dX4_sheet_93 : decode cX4_sheet 93 = .ok (.if_icmp .ge 7, 3) := dk_162 0 7 (dk_at dksX4_sheet_4 15 rfl rfl)
theorem dX4_sheet_96 : decode cX4_sheet 96 = .ok (.iconst (-1), 1) := dk_2 (dk_at dksX4_sheet_4 18 rfl rfl)
theorem dX4_sheet_97 : decode cX4_sheet 97 = .ok (.goto 15, 3) := dk_167 0 15 (dk_at dksX4_sheet_4 19 rfl rfl)
theorem dX4_sheet_100 : decode cX4_sheet 100 = .ok (.aload_n 0, 1) := dk_42 (dk_at dksX4_sheet_4 22 rfl rfl)
theorem dX4_sheet_101 : decode cX4_sheet 101 = .ok (.getfield 66, 3) := dk_180 0 66 (dk_at dksX4_sheet_5 0 rfl rfl)
theorem dX4_sheet_104 : decode cX4_sheet 104 = .ok (.bipush 19, 2) := dk_16 19 (dk_at dksX4_sheet_5 3 rfl rfl)
theorem dX4_sheet_106 : decode cX4_sheet 106 = .ok (.iload_n 1, 1) := dk_27 (dk_at dksX4_sheet_5 5 rfl rfl)
theorem dX4_sheet_107 : decode cX4_sheet 107 = .ok (.iadd, 1) := dk_96 (dk_at dksX4_sheet_5 6 rfl rfl)
theorem dX4_sheet_108 : decode cX4_sheet 108 = .ok (.iaload, 1) := dk_46 (dk_at dksX4_sheet_5 7 rfl rfl)
theorem dX4_sheet_109 : decode cX4_sheet 109 = .ok (.bipush 10, 2) := dk_16 10 (dk_at dksX4_sheet_5 8 rfl rfl)
theorem dX4_sheet_111 : decode cX4_sheet 111 = .ok (.isub, 1) := dk_100 (dk_at dksX4_sheet_5 10 rfl rfl)
theorem dX4_sheet_112 : decode cX4_sheet 112 = .ok (.ireturn, 1) := dk_172 (dk_at dksX4_sheet_5 11 rfl rfl)
theorem dX4_sheet_113 : decode cX4_sheet 113 = .ok (.aload_n 0, 1) := dk_42 (dk_at dksX4_sheet_5 12 rfl rfl)
theorem dX4_sheet_114 : decode cX4_sheet 114 = .ok (.iload_n 1, 1) := dk_27 (dk_at dksX4_sheet_5 13 rfl rfl)
theorem dX4_sheet_115 : decode cX4_sheet 115 = .ok (.invokevirtual 384, 3) := dk_182 1 128 (dk_at dksX4_sheet_5 14 rfl rfl)
theorem dX4_sheet_118 : decode cX4_sheet 118 = .ok (.ireturn, 1) := dk_172 (dk_at dksX4_sheet_5 17 rfl rfl)
abbrev cX4_isSheet : ByteArray := prog_12_method_68_code
def yX4_isSheet : MethodName := ⟨RX4, "isSheet", "(I)Z"⟩
def dkwX4_isSheet_0 : List UInt8 := [42, 27, 155, 0, 15, 27, 42, 180, 1, 24, 162, 0, 7, 4, 167, 0, 4, 3, 4, 182, 1, 17, 172]
abbrev dktX4_isSheet_0 : List UInt8 := dkwX4_isSheet_0 ++ []
theorem dksX4_isSheet_0 : cX4_isSheet.data.toList.drop 0 = dktX4_isSheet_0 := by decide +kernel
theorem dX4_isSheet_0 : decode cX4_isSheet 0 = .ok (.aload_n 0, 1) := dk_42 (dk_at dksX4_isSheet_0 0 rfl rfl)
theorem dX4_isSheet_1 : decode cX4_isSheet 1 = .ok (.iload_n 1, 1) := dk_27 (dk_at dksX4_isSheet_0 1 rfl rfl)
theorem dX4_isSheet_2 : decode cX4_isSheet 2 = .ok (.ifCond .lt 15, 3) := dk_155 0 15 (dk_at dksX4_isSheet_0 2 rfl rfl)
theorem dX4_isSheet_5 : decode cX4_isSheet 5 = .ok (.iload_n 1, 1) := dk_27 (dk_at dksX4_isSheet_0 5 rfl rfl)
theorem dX4_isSheet_6 : decode cX4_isSheet 6 = .ok (.aload_n 0, 1) := dk_42 (dk_at dksX4_isSheet_0 6 rfl rfl)
theorem dX4_isSheet_7 : decode cX4_isSheet 7 = .ok (.getfield 280, 3) := dk_180 1 24 (dk_at dksX4_isSheet_0 7 rfl rfl)
theorem dX4_isSheet_10 : decode cX4_isSheet 10 = .ok (.if_icmp .ge 7, 3) := dk_162 0 7 (dk_at dksX4_isSheet_0 10 rfl rfl)
theorem dX4_isSheet_13 : decode cX4_isSheet 13 = .ok (.iconst 1, 1) := dk_4 (dk_at dksX4_isSheet_0 13 rfl rfl)
theorem dX4_isSheet_14 : decode cX4_isSheet 14 = .ok (.goto 4, 3) := dk_167 0 4 (dk_at dksX4_isSheet_0 14 rfl rfl)
theorem dX4_isSheet_17 : decode cX4_isSheet 17 = .ok (.iconst 0, 1) := dk_3 (dk_at dksX4_isSheet_0 17 rfl rfl)
theorem dX4_isSheet_18 : decode cX4_isSheet 18 = .ok (.iconst 1, 1) := dk_4 (dk_at dksX4_isSheet_0 18 rfl rfl)
theorem dX4_isSheet_19 : decode cX4_isSheet 19 = .ok (.invokevirtual 273, 3) := dk_182 1 17 (dk_at dksX4_isSheet_0 19 rfl rfl)
theorem dX4_isSheet_22 : decode cX4_isSheet 22 = .ok (.ireturn, 1) := dk_172 (dk_at dksX4_isSheet_0 22 rfl rfl)
abbrev cX4_isWhat : ByteArray := prog_12_method_72_code
def yX4_isWhat : MethodName := ⟨RX4, "isWhat", "(II)Z"⟩
def dkwX4_isWhat_0 : List UInt8 := [42, 27, 3, 28, 184, 1, 107, 4, 182, 1, 17, 172]
abbrev dktX4_isWhat_0 : List UInt8 := dkwX4_isWhat_0 ++ []
theorem dksX4_isWhat_0 : cX4_isWhat.data.toList.drop 0 = dktX4_isWhat_0 := by decide +kernel
theorem dX4_isWhat_0 : decode cX4_isWhat 0 = .ok (.aload_n 0, 1) := dk_42 (dk_at dksX4_isWhat_0 0 rfl rfl)
theorem dX4_isWhat_1 : decode cX4_isWhat 1 = .ok (.iload_n 1, 1) := dk_27 (dk_at dksX4_isWhat_0 1 rfl rfl)
theorem dX4_isWhat_2 : decode cX4_isWhat 2 = .ok (.iconst 0, 1) := dk_3 (dk_at dksX4_isWhat_0 2 rfl rfl)
theorem dX4_isWhat_3 : decode cX4_isWhat 3 = .ok (.iload_n 2, 1) := dk_28 (dk_at dksX4_isWhat_0 3 rfl rfl)
theorem dX4_isWhat_4 : decode cX4_isWhat 4 = .ok (.invokestatic 363, 3) := dk_184 1 107 (dk_at dksX4_isWhat_0 4 rfl rfl)
theorem dX4_isWhat_7 : decode cX4_isWhat 7 = .ok (.iconst 1, 1) := dk_4 (dk_at dksX4_isWhat_0 7 rfl rfl)
theorem dX4_isWhat_8 : decode cX4_isWhat 8 = .ok (.invokevirtual 273, 3) := dk_182 1 17 (dk_at dksX4_isWhat_0 8 rfl rfl)
theorem dX4_isWhat_11 : decode cX4_isWhat 11 = .ok (.ireturn, 1) := dk_172 (dk_at dksX4_isWhat_0 11 rfl rfl)
abbrev cX4_sheetIn : ByteArray := prog_12_method_51_code
def yX4_sheetIn : MethodName := ⟨RX4, "sheetIn", "(II)I"⟩
def dkwX4_sheetIn_1 : List UInt8 := [29, 16, 10, 100, 182, 1, 57, 172]
abbrev dktX4_sheetIn_1 : List UInt8 := dkwX4_sheetIn_1 ++ []
def dkwX4_sheetIn_0 : List UInt8 := [42, 180, 0, 66, 27, 16, 19, 96, 28, 96, 46, 62, 29, 16, 10, 162, 0, 7, 29, 167, 0, 12, 42, 27]
abbrev dktX4_sheetIn_0 : List UInt8 := dkwX4_sheetIn_0 ++ dktX4_sheetIn_1
theorem dksX4_sheetIn_0 : cX4_sheetIn.data.toList.drop 0 = dktX4_sheetIn_0 := by decide +kernel
theorem dksX4_sheetIn_1 : cX4_sheetIn.data.toList.drop 24 = dktX4_sheetIn_1 := dk_seg dksX4_sheetIn_0 24 rfl rfl
theorem dX4_sheetIn_0 : decode cX4_sheetIn 0 = .ok (.aload_n 0, 1) := dk_42 (dk_at dksX4_sheetIn_0 0 rfl rfl)
theorem dX4_sheetIn_1 : decode cX4_sheetIn 1 = .ok (.getfield 66, 3) := dk_180 0 66 (dk_at dksX4_sheetIn_0 1 rfl rfl)
theorem dX4_sheetIn_4 : decode cX4_sheetIn 4 = .ok (.iload_n 1, 1) := dk_27 (dk_at dksX4_sheetIn_0 4 rfl rfl)
theorem dX4_sheetIn_5 : decode cX4_sheetIn 5 = .ok (.bipush 19, 2) := dk_16 19 (dk_at dksX4_sheetIn_0 5 rfl rfl)
theorem dX4_sheetIn_7 : decode cX4_sheetIn 7 = .ok (.iadd, 1) := dk_96 (dk_at dksX4_sheetIn_0 7 rfl rfl)
theorem dX4_sheetIn_8 : decode cX4_sheetIn 8 = .ok (.iload_n 2, 1) := dk_28 (dk_at dksX4_sheetIn_0 8 rfl rfl)
theorem dX4_sheetIn_9 : decode cX4_sheetIn 9 = .ok (.iadd, 1) := dk_96 (dk_at dksX4_sheetIn_0 9 rfl rfl)
theorem dX4_sheetIn_10 : decode cX4_sheetIn 10 = .ok (.iaload, 1) := dk_46 (dk_at dksX4_sheetIn_0 10 rfl rfl)
theorem dX4_sheetIn_11 : decode cX4_sheetIn 11 = .ok (.istore_n 3, 1) := dk_62 (dk_at dksX4_sheetIn_0 11 rfl rfl)
theorem dX4_sheetIn_12 : decode cX4_sheetIn 12 = .ok (.iload_n 3, 1) := dk_29 (dk_at dksX4_sheetIn_0 12 rfl rfl)
theorem dX4_sheetIn_13 : decode cX4_sheetIn 13 = .ok (.bipush 10, 2) := dk_16 10 (dk_at dksX4_sheetIn_0 13 rfl rfl)
theorem dX4_sheetIn_15 : decode cX4_sheetIn 15 = .ok (.if_icmp .ge 7, 3) := dk_162 0 7 (dk_at dksX4_sheetIn_0 15 rfl rfl)
theorem dX4_sheetIn_18 : decode cX4_sheetIn 18 = .ok (.iload_n 3, 1) := dk_29 (dk_at dksX4_sheetIn_0 18 rfl rfl)
theorem dX4_sheetIn_19 : decode cX4_sheetIn 19 = .ok (.goto 12, 3) := dk_167 0 12 (dk_at dksX4_sheetIn_0 19 rfl rfl)
theorem dX4_sheetIn_22 : decode cX4_sheetIn 22 = .ok (.aload_n 0, 1) := dk_42 (dk_at dksX4_sheetIn_0 22 rfl rfl)
theorem dX4_sheetIn_23 : decode cX4_sheetIn 23 = .ok (.iload_n 1, 1) := dk_27 (dk_at dksX4_sheetIn_0 23 rfl rfl)
theorem dX4_sheetIn_24 : decode cX4_sheetIn 24 = .ok (.iload_n 3, 1) := dk_29 (dk_at dksX4_sheetIn_1 0 rfl rfl)
theorem dX4_sheetIn_25 : decode cX4_sheetIn 25 = .ok (.bipush 10, 2) := dk_16 10 (dk_at dksX4_sheetIn_1 1 rfl rfl)
theorem dX4_sheetIn_27 : decode cX4_sheetIn 27 = .ok (.isub, 1) := dk_100 (dk_at dksX4_sheetIn_1 3 rfl rfl)
theorem dX4_sheetIn_28 : decode cX4_sheetIn 28 = .ok (.invokevirtual 313, 3) := dk_182 1 57 (dk_at dksX4_sheetIn_1 4 rfl rfl)
theorem dX4_sheetIn_31 : decode cX4_sheetIn 31 = .ok (.ireturn, 1) := dk_172 (dk_at dksX4_sheetIn_1 7 rfl rfl)
