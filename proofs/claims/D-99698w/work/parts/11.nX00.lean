/-! TwinInkLaw -/
set_option maxRecDepth 100000
def RX0 : String := "TwinInkLaw"
abbrev cX0_office : ByteArray := method_3_code
def yX0_office : MethodName := ⟨RX0, "office", "(LTwinInk;I[J)I"⟩
def dkwX0_office_0 : List UInt8 := [44, 3, 42, 27, 182, 0, 7, 133, 80, 167, 0, 6, 78, 4, 172, 3, 172]
abbrev dktX0_office_0 : List UInt8 := dkwX0_office_0 ++ []
theorem dksX0_office_0 : cX0_office.data.toList.drop 0 = dktX0_office_0 := by decide +kernel
theorem dX0_office_0 : decode cX0_office 0 = .ok (.aload_n 2, 1) := dk_44 (dk_at dksX0_office_0 0 rfl rfl)
theorem dX0_office_1 : decode cX0_office 1 = .ok (.iconst 0, 1) := dk_3 (dk_at dksX0_office_0 1 rfl rfl)
theorem dX0_office_2 : decode cX0_office 2 = .ok (.aload_n 0, 1) := dk_42 (dk_at dksX0_office_0 2 rfl rfl)
theorem dX0_office_3 : decode cX0_office 3 = .ok (.iload_n 1, 1) := dk_27 (dk_at dksX0_office_0 3 rfl rfl)
theorem dX0_office_4 : decode cX0_office 4 = .ok (.invokevirtual 7, 3) := dk_182 0 7 (dk_at dksX0_office_0 4 rfl rfl)
theorem dX0_office_7 : decode cX0_office 7 = .ok (.i2l, 1) := dk_133 (dk_at dksX0_office_0 7 rfl rfl)
theorem dX0_office_8 : decode cX0_office 8 = .ok (.lastore, 1) := dk_80 (dk_at dksX0_office_0 8 rfl rfl)
theorem dX0_office_9 : decode cX0_office 9 = .ok (.goto 6, 3) := dk_167 0 6 (dk_at dksX0_office_0 9 rfl rfl)
theorem dX0_office_12 : decode cX0_office 12 = .ok (.astore_n 3, 1) := dk_78 (dk_at dksX0_office_0 12 rfl rfl)
theorem dX0_office_13 : decode cX0_office 13 = .ok (.iconst 1, 1) := dk_4 (dk_at dksX0_office_0 13 rfl rfl)
theorem dX0_office_14 : decode cX0_office 14 = .ok (.ireturn, 1) := dk_172 (dk_at dksX0_office_0 14 rfl rfl)
theorem dX0_office_15 : decode cX0_office 15 = .ok (.iconst 0, 1) := dk_3 (dk_at dksX0_office_0 15 rfl rfl)
theorem dX0_office_16 : decode cX0_office 16 = .ok (.ireturn, 1) := dk_172 (dk_at dksX0_office_0 16 rfl rfl)
abbrev cX0_count : ByteArray := method_4_code
def yX0_count : MethodName := ⟨RX0, "count", "(LTwinInk;I[J)I"⟩
def dkwX0_count_0 : List UInt8 := [44, 3, 42, 27, 182, 0, 15, 133, 80, 167, 0, 6, 78, 4, 172, 3, 172]
abbrev dktX0_count_0 : List UInt8 := dkwX0_count_0 ++ []
theorem dksX0_count_0 : cX0_count.data.toList.drop 0 = dktX0_count_0 := by decide +kernel
theorem dX0_count_0 : decode cX0_count 0 = .ok (.aload_n 2, 1) := dk_44 (dk_at dksX0_count_0 0 rfl rfl)
theorem dX0_count_1 : decode cX0_count 1 = .ok (.iconst 0, 1) := dk_3 (dk_at dksX0_count_0 1 rfl rfl)
theorem dX0_count_2 : decode cX0_count 2 = .ok (.aload_n 0, 1) := dk_42 (dk_at dksX0_count_0 2 rfl rfl)
theorem dX0_count_3 : decode cX0_count 3 = .ok (.iload_n 1, 1) := dk_27 (dk_at dksX0_count_0 3 rfl rfl)
theorem dX0_count_4 : decode cX0_count 4 = .ok (.invokevirtual 15, 3) := dk_182 0 15 (dk_at dksX0_count_0 4 rfl rfl)
theorem dX0_count_7 : decode cX0_count 7 = .ok (.i2l, 1) := dk_133 (dk_at dksX0_count_0 7 rfl rfl)
theorem dX0_count_8 : decode cX0_count 8 = .ok (.lastore, 1) := dk_80 (dk_at dksX0_count_0 8 rfl rfl)
theorem dX0_count_9 : decode cX0_count 9 = .ok (.goto 6, 3) := dk_167 0 6 (dk_at dksX0_count_0 9 rfl rfl)
theorem dX0_count_12 : decode cX0_count 12 = .ok (.astore_n 3, 1) := dk_78 (dk_at dksX0_count_0 12 rfl rfl)
theorem dX0_count_13 : decode cX0_count 13 = .ok (.iconst 1, 1) := dk_4 (dk_at dksX0_count_0 13 rfl rfl)
theorem dX0_count_14 : decode cX0_count 14 = .ok (.ireturn, 1) := dk_172 (dk_at dksX0_count_0 14 rfl rfl)
theorem dX0_count_15 : decode cX0_count 15 = .ok (.iconst 0, 1) := dk_3 (dk_at dksX0_count_0 15 rfl rfl)
theorem dX0_count_16 : decode cX0_count 16 = .ok (.ireturn, 1) := dk_172 (dk_at dksX0_count_0 16 rfl rfl)
abbrev cX0_sheet : ByteArray := method_5_code
def yX0_sheet : MethodName := ⟨RX0, "sheet", "(LTwinInk;II[J)I"⟩
def dkwX0_sheet_0 : List UInt8 := [45, 3, 42, 27, 28, 182, 0, 20, 133, 80, 167, 0, 7, 58, 4, 4, 172, 3, 172]
abbrev dktX0_sheet_0 : List UInt8 := dkwX0_sheet_0 ++ []
theorem dksX0_sheet_0 : cX0_sheet.data.toList.drop 0 = dktX0_sheet_0 := by decide +kernel
theorem dX0_sheet_0 : decode cX0_sheet 0 = .ok (.aload_n 3, 1) := dk_45 (dk_at dksX0_sheet_0 0 rfl rfl)
theorem dX0_sheet_1 : decode cX0_sheet 1 = .ok (.iconst 0, 1) := dk_3 (dk_at dksX0_sheet_0 1 rfl rfl)
theorem dX0_sheet_2 : decode cX0_sheet 2 = .ok (.aload_n 0, 1) := dk_42 (dk_at dksX0_sheet_0 2 rfl rfl)
theorem dX0_sheet_3 : decode cX0_sheet 3 = .ok (.iload_n 1, 1) := dk_27 (dk_at dksX0_sheet_0 3 rfl rfl)
theorem dX0_sheet_4 : decode cX0_sheet 4 = .ok (.iload_n 2, 1) := dk_28 (dk_at dksX0_sheet_0 4 rfl rfl)
theorem dX0_sheet_5 : decode cX0_sheet 5 = .ok (.invokevirtual 20, 3) := dk_182 0 20 (dk_at dksX0_sheet_0 5 rfl rfl)
theorem dX0_sheet_8 : decode cX0_sheet 8 = .ok (.i2l, 1) := dk_133 (dk_at dksX0_sheet_0 8 rfl rfl)
theorem dX0_sheet_9 : decode cX0_sheet 9 = .ok (.lastore, 1) := dk_80 (dk_at dksX0_sheet_0 9 rfl rfl)
theorem dX0_sheet_10 : decode cX0_sheet 10 = .ok (.goto 7, 3) := dk_167 0 7 (dk_at dksX0_sheet_0 10 rfl rfl)
theorem dX0_sheet_13 : decode cX0_sheet 13 = .ok (.astore 4, 2) := dk_58 4 (dk_at dksX0_sheet_0 13 rfl rfl)
theorem dX0_sheet_15 : decode cX0_sheet 15 = .ok (.iconst 1, 1) := dk_4 (dk_at dksX0_sheet_0 15 rfl rfl)
theorem dX0_sheet_16 : decode cX0_sheet 16 = .ok (.ireturn, 1) := dk_172 (dk_at dksX0_sheet_0 16 rfl rfl)
theorem dX0_sheet_17 : decode cX0_sheet 17 = .ok (.iconst 0, 1) := dk_3 (dk_at dksX0_sheet_0 17 rfl rfl)
theorem dX0_sheet_18 : decode cX0_sheet 18 = .ok (.ireturn, 1) := dk_172 (dk_at dksX0_sheet_0 18 rfl rfl)
abbrev cX0_clerk : ByteArray := method_6_code
def yX0_clerk : MethodName := ⟨RX0, "clerk", "(LTwinInk;II[J)I"⟩
def dkwX0_clerk_0 : List UInt8 := [45, 3, 42, 27, 28, 182, 0, 24, 133, 80, 167, 0, 7, 58, 4, 4, 172, 3, 172]
abbrev dktX0_clerk_0 : List UInt8 := dkwX0_clerk_0 ++ []
theorem dksX0_clerk_0 : cX0_clerk.data.toList.drop 0 = dktX0_clerk_0 := by decide +kernel
theorem dX0_clerk_0 : decode cX0_clerk 0 = .ok (.aload_n 3, 1) := dk_45 (dk_at dksX0_clerk_0 0 rfl rfl)
theorem dX0_clerk_1 : decode cX0_clerk 1 = .ok (.iconst 0, 1) := dk_3 (dk_at dksX0_clerk_0 1 rfl rfl)
theorem dX0_clerk_2 : decode cX0_clerk 2 = .ok (.aload_n 0, 1) := dk_42 (dk_at dksX0_clerk_0 2 rfl rfl)
theorem dX0_clerk_3 : decode cX0_clerk 3 = .ok (.iload_n 1, 1) := dk_27 (dk_at dksX0_clerk_0 3 rfl rfl)
theorem dX0_clerk_4 : decode cX0_clerk 4 = .ok (.iload_n 2, 1) := dk_28 (dk_at dksX0_clerk_0 4 rfl rfl)
theorem dX0_clerk_5 : decode cX0_clerk 5 = .ok (.invokevirtual 24, 3) := dk_182 0 24 (dk_at dksX0_clerk_0 5 rfl rfl)
theorem dX0_clerk_8 : decode cX0_clerk 8 = .ok (.i2l, 1) := dk_133 (dk_at dksX0_clerk_0 8 rfl rfl)
theorem dX0_clerk_9 : decode cX0_clerk 9 = .ok (.lastore, 1) := dk_80 (dk_at dksX0_clerk_0 9 rfl rfl)
theorem dX0_clerk_10 : decode cX0_clerk 10 = .ok (.goto 7, 3) := dk_167 0 7 (dk_at dksX0_clerk_0 10 rfl rfl)
theorem dX0_clerk_13 : decode cX0_clerk 13 = .ok (.astore 4, 2) := dk_58 4 (dk_at dksX0_clerk_0 13 rfl rfl)
theorem dX0_clerk_15 : decode cX0_clerk 15 = .ok (.iconst 1, 1) := dk_4 (dk_at dksX0_clerk_0 15 rfl rfl)
theorem dX0_clerk_16 : decode cX0_clerk 16 = .ok (.ireturn, 1) := dk_172 (dk_at dksX0_clerk_0 16 rfl rfl)
theorem dX0_clerk_17 : decode cX0_clerk 17 = .ok (.iconst 0, 1) := dk_3 (dk_at dksX0_clerk_0 17 rfl rfl)
theorem dX0_clerk_18 : decode cX0_clerk 18 = .ok (.ireturn, 1) := dk_172 (dk_at dksX0_clerk_0 18 rfl rfl)
abbrev cX0_word : ByteArray := method_7_code
def yX0_word : MethodName := ⟨RX0, "word", "(LTwinInk;II[J)I"⟩
def dkwX0_word_0 : List UInt8 := [45, 3, 42, 27, 28, 182, 0, 27, 133, 80, 167, 0, 7, 58, 4, 4, 172, 3, 172]
abbrev dktX0_word_0 : List UInt8 := dkwX0_word_0 ++ []
theorem dksX0_word_0 : cX0_word.data.toList.drop 0 = dktX0_word_0 := by decide +kernel
theorem dX0_word_0 : decode cX0_word 0 = .ok (.aload_n 3, 1) := dk_45 (dk_at dksX0_word_0 0 rfl rfl)
theorem dX0_word_1 : decode cX0_word 1 = .ok (.iconst 0, 1) := dk_3 (dk_at dksX0_word_0 1 rfl rfl)
theorem dX0_word_2 : decode cX0_word 2 = .ok (.aload_n 0, 1) := dk_42 (dk_at dksX0_word_0 2 rfl rfl)
theorem dX0_word_3 : decode cX0_word 3 = .ok (.iload_n 1, 1) := dk_27 (dk_at dksX0_word_0 3 rfl rfl)
theorem dX0_word_4 : decode cX0_word 4 = .ok (.iload_n 2, 1) := dk_28 (dk_at dksX0_word_0 4 rfl rfl)
theorem dX0_word_5 : decode cX0_word 5 = .ok (.invokevirtual 27, 3) := dk_182 0 27 (dk_at dksX0_word_0 5 rfl rfl)
theorem dX0_word_8 : decode cX0_word 8 = .ok (.i2l, 1) := dk_133 (dk_at dksX0_word_0 8 rfl rfl)
theorem dX0_word_9 : decode cX0_word 9 = .ok (.lastore, 1) := dk_80 (dk_at dksX0_word_0 9 rfl rfl)
theorem dX0_word_10 : decode cX0_word 10 = .ok (.goto 7, 3) := dk_167 0 7 (dk_at dksX0_word_0 10 rfl rfl)
theorem dX0_word_13 : decode cX0_word 13 = .ok (.astore 4, 2) := dk_58 4 (dk_at dksX0_word_0 13 rfl rfl)
theorem dX0_word_15 : decode cX0_word 15 = .ok (.iconst 1, 1) := dk_4 (dk_at dksX0_word_0 15 rfl rfl)
theorem dX0_word_16 : decode cX0_word 16 = .ok (.ireturn, 1) := dk_172 (dk_at dksX0_word_0 16 rfl rfl)
theorem dX0_word_17 : decode cX0_word 17 = .ok (.iconst 0, 1) := dk_3 (dk_at dksX0_word_0 17 rfl rfl)
theorem dX0_word_18 : decode cX0_word 18 = .ok (.ireturn, 1) := dk_172 (dk_at dksX0_word_0 18 rfl rfl)
abbrev cX0_town : ByteArray := method_8_code
def yX0_town : MethodName := ⟨RX0, "town", "(LTwinInk;II[J)I"⟩
def dkwX0_town_0 : List UInt8 := [45, 3, 42, 27, 28, 182, 0, 30, 133, 80, 167, 0, 7, 58, 4, 4, 172, 3, 172]
abbrev dktX0_town_0 : List UInt8 := dkwX0_town_0 ++ []
theorem dksX0_town_0 : cX0_town.data.toList.drop 0 = dktX0_town_0 := by decide +kernel
theorem dX0_town_0 : decode cX0_town 0 = .ok (.aload_n 3, 1) := dk_45 (dk_at dksX0_town_0 0 rfl rfl)
theorem dX0_town_1 : decode cX0_town 1 = .ok (.iconst 0, 1) := dk_3 (dk_at dksX0_town_0 1 rfl rfl)
theorem dX0_town_2 : decode cX0_town 2 = .ok (.aload_n 0, 1) := dk_42 (dk_at dksX0_town_0 2 rfl rfl)
theorem dX0_town_3 : decode cX0_town 3 = .ok (.iload_n 1, 1) := dk_27 (dk_at dksX0_town_0 3 rfl rfl)
theorem dX0_town_4 : decode cX0_town 4 = .ok (.iload_n 2, 1) := dk_28 (dk_at dksX0_town_0 4 rfl rfl)
theorem dX0_town_5 : decode cX0_town 5 = .ok (.invokevirtual 30, 3) := dk_182 0 30 (dk_at dksX0_town_0 5 rfl rfl)
theorem dX0_town_8 : decode cX0_town 8 = .ok (.i2l, 1) := dk_133 (dk_at dksX0_town_0 8 rfl rfl)
theorem dX0_town_9 : decode cX0_town 9 = .ok (.lastore, 1) := dk_80 (dk_at dksX0_town_0 9 rfl rfl)
theorem dX0_town_10 : decode cX0_town 10 = .ok (.goto 7, 3) := dk_167 0 7 (dk_at dksX0_town_0 10 rfl rfl)
theorem dX0_town_13 : decode cX0_town 13 = .ok (.astore 4, 2) := dk_58 4 (dk_at dksX0_town_0 13 rfl rfl)
theorem dX0_town_15 : decode cX0_town 15 = .ok (.iconst 1, 1) := dk_4 (dk_at dksX0_town_0 15 rfl rfl)
theorem dX0_town_16 : decode cX0_town 16 = .ok (.ireturn, 1) := dk_172 (dk_at dksX0_town_0 16 rfl rfl)
theorem dX0_town_17 : decode cX0_town 17 = .ok (.iconst 0, 1) := dk_3 (dk_at dksX0_town_0 17 rfl rfl)
theorem dX0_town_18 : decode cX0_town 18 = .ok (.ireturn, 1) := dk_172 (dk_at dksX0_town_0 18 rfl rfl)
abbrev cX0_take : ByteArray := method_9_code
def yX0_take : MethodName := ⟨RX0, "take", "(LTwinInk;II[J)I"⟩
def dkwX0_take_1 : List UInt8 := [3, 172]
abbrev dktX0_take_1 : List UInt8 := dkwX0_take_1 ++ []
def dkwX0_take_0 : List UInt8 := [45, 3, 42, 27, 28, 182, 0, 33, 153, 0, 7, 10, 167, 0, 4, 9, 80, 167, 0, 7, 58, 4, 4, 172]
abbrev dktX0_take_0 : List UInt8 := dkwX0_take_0 ++ dktX0_take_1
theorem dksX0_take_0 : cX0_take.data.toList.drop 0 = dktX0_take_0 := by decide +kernel
theorem dksX0_take_1 : cX0_take.data.toList.drop 24 = dktX0_take_1 := dk_seg dksX0_take_0 24 rfl rfl
theorem dX0_take_0 : decode cX0_take 0 = .ok (.aload_n 3, 1) := dk_45 (dk_at dksX0_take_0 0 rfl rfl)
theorem dX0_take_1 : decode cX0_take 1 = .ok (.iconst 0, 1) := dk_3 (dk_at dksX0_take_0 1 rfl rfl)
theorem dX0_take_2 : decode cX0_take 2 = .ok (.aload_n 0, 1) := dk_42 (dk_at dksX0_take_0 2 rfl rfl)
theorem dX0_take_3 : decode cX0_take 3 = .ok (.iload_n 1, 1) := dk_27 (dk_at dksX0_take_0 3 rfl rfl)
theorem dX0_take_4 : decode cX0_take 4 = .ok (.iload_n 2, 1) := dk_28 (dk_at dksX0_take_0 4 rfl rfl)
theorem dX0_take_5 : decode cX0_take 5 = .ok (.invokevirtual 33, 3) := dk_182 0 33 (dk_at dksX0_take_0 5 rfl rfl)
theorem dX0_take_8 : decode cX0_take 8 = .ok (.ifCond .eq 7, 3) := dk_153 0 7 (dk_at dksX0_take_0 8 rfl rfl)
theorem dX0_take_11 : decode cX0_take 11 = .ok (.lconst 1, 1) := dk_10 (dk_at dksX0_take_0 11 rfl rfl)
theorem dX0_take_12 : decode cX0_take 12 = .ok (.goto 4, 3) := dk_167 0 4 (dk_at dksX0_take_0 12 rfl rfl)
theorem dX0_take_15 : decode cX0_take 15 = .ok (.lconst 0, 1) := dk_9 (dk_at dksX0_take_0 15 rfl rfl)
theorem dX0_take_16 : decode cX0_take 16 = .ok (.lastore, 1) := dk_80 (dk_at dksX0_take_0 16 rfl rfl)
theorem dX0_take_17 : decode cX0_take 17 = .ok (.goto 7, 3) := dk_167 0 7 (dk_at dksX0_take_0 17 rfl rfl)
theorem dX0_take_20 : decode cX0_take 20 = .ok (.astore 4, 2) := dk_58 4 (dk_at dksX0_take_0 20 rfl rfl)
theorem dX0_take_22 : decode cX0_take 22 = .ok (.iconst 1, 1) := dk_4 (dk_at dksX0_take_0 22 rfl rfl)
theorem dX0_take_23 : decode cX0_take 23 = .ok (.ireturn, 1) := dk_172 (dk_at dksX0_take_0 23 rfl rfl)
theorem dX0_take_24 : decode cX0_take 24 = .ok (.iconst 0, 1) := dk_3 (dk_at dksX0_take_1 0 rfl rfl)
theorem dX0_take_25 : decode cX0_take 25 = .ok (.ireturn, 1) := dk_172 (dk_at dksX0_take_1 1 rfl rfl)
abbrev cX0_leave : ByteArray := method_10_code
def yX0_leave : MethodName := ⟨RX0, "leave", "(LTwinInk;II[J)I"⟩
def dkwX0_leave_0 : List UInt8 := [45, 3, 42, 27, 28, 182, 0, 37, 133, 80, 167, 0, 7, 58, 4, 4, 172, 3, 172]
abbrev dktX0_leave_0 : List UInt8 := dkwX0_leave_0 ++ []
theorem dksX0_leave_0 : cX0_leave.data.toList.drop 0 = dktX0_leave_0 := by decide +kernel
theorem dX0_leave_0 : decode cX0_leave 0 = .ok (.aload_n 3, 1) := dk_45 (dk_at dksX0_leave_0 0 rfl rfl)
theorem dX0_leave_1 : decode cX0_leave 1 = .ok (.iconst 0, 1) := dk_3 (dk_at dksX0_leave_0 1 rfl rfl)
theorem dX0_leave_2 : decode cX0_leave 2 = .ok (.aload_n 0, 1) := dk_42 (dk_at dksX0_leave_0 2 rfl rfl)
theorem dX0_leave_3 : decode cX0_leave 3 = .ok (.iload_n 1, 1) := dk_27 (dk_at dksX0_leave_0 3 rfl rfl)
theorem dX0_leave_4 : decode cX0_leave 4 = .ok (.iload_n 2, 1) := dk_28 (dk_at dksX0_leave_0 4 rfl rfl)
theorem dX0_leave_5 : decode cX0_leave 5 = .ok (.invokevirtual 37, 3) := dk_182 0 37 (dk_at dksX0_leave_0 5 rfl rfl)
theorem dX0_leave_8 : decode cX0_leave 8 = .ok (.i2l, 1) := dk_133 (dk_at dksX0_leave_0 8 rfl rfl)
theorem dX0_leave_9 : decode cX0_leave 9 = .ok (.lastore, 1) := dk_80 (dk_at dksX0_leave_0 9 rfl rfl)
theorem dX0_leave_10 : decode cX0_leave 10 = .ok (.goto 7, 3) := dk_167 0 7 (dk_at dksX0_leave_0 10 rfl rfl)
theorem dX0_leave_13 : decode cX0_leave 13 = .ok (.astore 4, 2) := dk_58 4 (dk_at dksX0_leave_0 13 rfl rfl)
theorem dX0_leave_15 : decode cX0_leave 15 = .ok (.iconst 1, 1) := dk_4 (dk_at dksX0_leave_0 15 rfl rfl)
theorem dX0_leave_16 : decode cX0_leave 16 = .ok (.ireturn, 1) := dk_172 (dk_at dksX0_leave_0 16 rfl rfl)
theorem dX0_leave_17 : decode cX0_leave 17 = .ok (.iconst 0, 1) := dk_3 (dk_at dksX0_leave_0 17 rfl rfl)
theorem dX0_leave_18 : decode cX0_leave 18 = .ok (.ireturn, 1) := dk_172 (dk_at dksX0_leave_0 18 rfl rfl)
abbrev cX0_forge : ByteArray := method_11_code
def yX0_forge : MethodName := ⟨RX0, "forge", "(LTwinInk;III[J)I"⟩
def dkwX0_forge_0 : List UInt8 := [25, 4, 3, 42, 27, 28, 29, 182, 0, 40, 133, 80, 167, 0, 7, 58, 5, 4, 172, 3, 172]
abbrev dktX0_forge_0 : List UInt8 := dkwX0_forge_0 ++ []
theorem dksX0_forge_0 : cX0_forge.data.toList.drop 0 = dktX0_forge_0 := by decide +kernel
theorem dX0_forge_0 : decode cX0_forge 0 = .ok (.aload 4, 2) := dk_25 4 (dk_at dksX0_forge_0 0 rfl rfl)
theorem dX0_forge_2 : decode cX0_forge 2 = .ok (.iconst 0, 1) := dk_3 (dk_at dksX0_forge_0 2 rfl rfl)
theorem dX0_forge_3 : decode cX0_forge 3 = .ok (.aload_n 0, 1) := dk_42 (dk_at dksX0_forge_0 3 rfl rfl)
theorem dX0_forge_4 : decode cX0_forge 4 = .ok (.iload_n 1, 1) := dk_27 (dk_at dksX0_forge_0 4 rfl rfl)
theorem dX0_forge_5 : decode cX0_forge 5 = .ok (.iload_n 2, 1) := dk_28 (dk_at dksX0_forge_0 5 rfl rfl)
theorem dX0_forge_6 : decode cX0_forge 6 = .ok (.iload_n 3, 1) := dk_29 (dk_at dksX0_forge_0 6 rfl rfl)
theorem dX0_forge_7 : decode cX0_forge 7 = .ok (.invokevirtual 40, 3) := dk_182 0 40 (dk_at dksX0_forge_0 7 rfl rfl)
theorem dX0_forge_10 : decode cX0_forge 10 = .ok (.i2l, 1) := dk_133 (dk_at dksX0_forge_0 10 rfl rfl)
theorem dX0_forge_11 : decode cX0_forge 11 = .ok (.lastore, 1) := dk_80 (dk_at dksX0_forge_0 11 rfl rfl)
theorem dX0_forge_12 : decode cX0_forge 12 = .ok (.goto 7, 3) := dk_167 0 7 (dk_at dksX0_forge_0 12 rfl rfl)
theorem dX0_forge_15 : decode cX0_forge 15 = .ok (.astore 5, 2) := dk_58 5 (dk_at dksX0_forge_0 15 rfl rfl)
theorem dX0_forge_17 : decode cX0_forge 17 = .ok (.iconst 1, 1) := dk_4 (dk_at dksX0_forge_0 17 rfl rfl)
theorem dX0_forge_18 : decode cX0_forge 18 = .ok (.ireturn, 1) := dk_172 (dk_at dksX0_forge_0 18 rfl rfl)
theorem dX0_forge_19 : decode cX0_forge 19 = .ok (.iconst 0, 1) := dk_3 (dk_at dksX0_forge_0 19 rfl rfl)
theorem dX0_forge_20 : decode cX0_forge 20 = .ok (.ireturn, 1) := dk_172 (dk_at dksX0_forge_0 20 rfl rfl)
abbrev cX0_fire : ByteArray := method_12_code
def yX0_fire : MethodName := ⟨RX0, "fire", "(LTwinInk;I[J)I"⟩
def dkwX0_fire_0 : List UInt8 := [44, 3, 42, 27, 182, 0, 44, 133, 80, 167, 0, 6, 78, 4, 172, 3, 172]
abbrev dktX0_fire_0 : List UInt8 := dkwX0_fire_0 ++ []
theorem dksX0_fire_0 : cX0_fire.data.toList.drop 0 = dktX0_fire_0 := by decide +kernel
theorem dX0_fire_0 : decode cX0_fire 0 = .ok (.aload_n 2, 1) := dk_44 (dk_at dksX0_fire_0 0 rfl rfl)
theorem dX0_fire_1 : decode cX0_fire 1 = .ok (.iconst 0, 1) := dk_3 (dk_at dksX0_fire_0 1 rfl rfl)
theorem dX0_fire_2 : decode cX0_fire 2 = .ok (.aload_n 0, 1) := dk_42 (dk_at dksX0_fire_0 2 rfl rfl)
theorem dX0_fire_3 : decode cX0_fire 3 = .ok (.iload_n 1, 1) := dk_27 (dk_at dksX0_fire_0 3 rfl rfl)
theorem dX0_fire_4 : decode cX0_fire 4 = .ok (.invokevirtual 44, 3) := dk_182 0 44 (dk_at dksX0_fire_0 4 rfl rfl)
theorem dX0_fire_7 : decode cX0_fire 7 = .ok (.i2l, 1) := dk_133 (dk_at dksX0_fire_0 7 rfl rfl)
theorem dX0_fire_8 : decode cX0_fire 8 = .ok (.lastore, 1) := dk_80 (dk_at dksX0_fire_0 8 rfl rfl)
theorem dX0_fire_9 : decode cX0_fire 9 = .ok (.goto 6, 3) := dk_167 0 6 (dk_at dksX0_fire_0 9 rfl rfl)
theorem dX0_fire_12 : decode cX0_fire 12 = .ok (.astore_n 3, 1) := dk_78 (dk_at dksX0_fire_0 12 rfl rfl)
theorem dX0_fire_13 : decode cX0_fire 13 = .ok (.iconst 1, 1) := dk_4 (dk_at dksX0_fire_0 13 rfl rfl)
theorem dX0_fire_14 : decode cX0_fire 14 = .ok (.ireturn, 1) := dk_172 (dk_at dksX0_fire_0 14 rfl rfl)
theorem dX0_fire_15 : decode cX0_fire 15 = .ok (.iconst 0, 1) := dk_3 (dk_at dksX0_fire_0 15 rfl rfl)
theorem dX0_fire_16 : decode cX0_fire 16 = .ok (.ireturn, 1) := dk_172 (dk_at dksX0_fire_0 16 rfl rfl)
abbrev cX0_then : ByteArray := method_13_code
def yX0_then : MethodName := ⟨RX0, "then", "(LTwinInk;III[J)I"⟩
def dkwX0_then_1 : List UInt8 := [172]
abbrev dktX0_then_1 : List UInt8 := dkwX0_then_1 ++ []
def dkwX0_then_0 : List UInt8 := [25, 4, 3, 42, 27, 28, 29, 182, 0, 47, 133, 80, 167, 0, 11, 58, 5, 4, 172, 58, 5, 5, 172, 3]
abbrev dktX0_then_0 : List UInt8 := dkwX0_then_0 ++ dktX0_then_1
theorem dksX0_then_0 : cX0_then.data.toList.drop 0 = dktX0_then_0 := by decide +kernel
theorem dksX0_then_1 : cX0_then.data.toList.drop 24 = dktX0_then_1 := dk_seg dksX0_then_0 24 rfl rfl
theorem dX0_then_0 : decode cX0_then 0 = .ok (.aload 4, 2) := dk_25 4 (dk_at dksX0_then_0 0 rfl rfl)
theorem dX0_then_2 : decode cX0_then 2 = .ok (.iconst 0, 1) := dk_3 (dk_at dksX0_then_0 2 rfl rfl)
theorem dX0_then_3 : decode cX0_then 3 = .ok (.aload_n 0, 1) := dk_42 (dk_at dksX0_then_0 3 rfl rfl)
theorem dX0_then_4 : decode cX0_then 4 = .ok (.iload_n 1, 1) := dk_27 (dk_at dksX0_then_0 4 rfl rfl)
theorem dX0_then_5 : decode cX0_then 5 = .ok (.iload_n 2, 1) := dk_28 (dk_at dksX0_then_0 5 rfl rfl)
theorem dX0_then_6 : decode cX0_then 6 = .ok (.iload_n 3, 1) := dk_29 (dk_at dksX0_then_0 6 rfl rfl)
theorem dX0_then_7 : decode cX0_then 7 = .ok (.invokevirtual 47, 3) := dk_182 0 47 (dk_at dksX0_then_0 7 rfl rfl)
theorem dX0_then_10 : decode cX0_then 10 = .ok (.i2l, 1) := dk_133 (dk_at dksX0_then_0 10 rfl rfl)
theorem dX0_then_11 : decode cX0_then 11 = .ok (.lastore, 1) := dk_80 (dk_at dksX0_then_0 11 rfl rfl)
theorem dX0_then_12 : decode cX0_then 12 = .ok (.goto 11, 3) := dk_167 0 11 (dk_at dksX0_then_0 12 rfl rfl)
theorem dX0_then_15 : decode cX0_then 15 = .ok (.astore 5, 2) := dk_58 5 (dk_at dksX0_then_0 15 rfl rfl)
theorem dX0_then_17 : decode cX0_then 17 = .ok (.iconst 1, 1) := dk_4 (dk_at dksX0_then_0 17 rfl rfl)
theorem dX0_then_18 : decode cX0_then 18 = .ok (.ireturn, 1) := dk_172 (dk_at dksX0_then_0 18 rfl rfl)
theorem dX0_then_19 : decode cX0_then 19 = .ok (.astore 5, 2) := dk_58 5 (dk_at dksX0_then_0 19 rfl rfl)
theorem dX0_then_21 : decode cX0_then 21 = .ok (.iconst 2, 1) := dk_5 (dk_at dksX0_then_0 21 rfl rfl)
theorem dX0_then_22 : decode cX0_then 22 = .ok (.ireturn, 1) := dk_172 (dk_at dksX0_then_0 22 rfl rfl)
theorem dX0_then_23 : decode cX0_then 23 = .ok (.iconst 0, 1) := dk_3 (dk_at dksX0_then_0 23 rfl rfl)
theorem dX0_then_24 : decode cX0_then 24 = .ok (.ireturn, 1) := dk_172 (dk_at dksX0_then_1 0 rfl rfl)
abbrev cX0_where : ByteArray := method_14_code
def yX0_where : MethodName := ⟨RX0, "where", "(LTwinInk;II[J)I"⟩
def dkwX0_where_0 : List UInt8 := [45, 3, 42, 27, 28, 182, 0, 50, 133, 80, 167, 0, 11, 58, 4, 4, 172, 58, 4, 5, 172, 3, 172]
abbrev dktX0_where_0 : List UInt8 := dkwX0_where_0 ++ []
theorem dksX0_where_0 : cX0_where.data.toList.drop 0 = dktX0_where_0 := by decide +kernel
theorem dX0_where_0 : decode cX0_where 0 = .ok (.aload_n 3, 1) := dk_45 (dk_at dksX0_where_0 0 rfl rfl)
theorem dX0_where_1 : decode cX0_where 1 = .ok (.iconst 0, 1) := dk_3 (dk_at dksX0_where_0 1 rfl rfl)
theorem dX0_where_2 : decode cX0_where 2 = .ok (.aload_n 0, 1) := dk_42 (dk_at dksX0_where_0 2 rfl rfl)
theorem dX0_where_3 : decode cX0_where 3 = .ok (.iload_n 1, 1) := dk_27 (dk_at dksX0_where_0 3 rfl rfl)
theorem dX0_where_4 : decode cX0_where 4 = .ok (.iload_n 2, 1) := dk_28 (dk_at dksX0_where_0 4 rfl rfl)
theorem dX0_where_5 : decode cX0_where 5 = .ok (.invokevirtual 50, 3) := dk_182 0 50 (dk_at dksX0_where_0 5 rfl rfl)
theorem dX0_where_8 : decode cX0_where 8 = .ok (.i2l, 1) := dk_133 (dk_at dksX0_where_0 8 rfl rfl)
theorem dX0_where_9 : decode cX0_where 9 = .ok (.lastore, 1) := dk_80 (dk_at dksX0_where_0 9 rfl rfl)
theorem dX0_where_10 : decode cX0_where 10 = .ok (.goto 11, 3) := dk_167 0 11 (dk_at dksX0_where_0 10 rfl rfl)
theorem dX0_where_13 : decode cX0_where 13 = .ok (.astore 4, 2) := dk_58 4 (dk_at dksX0_where_0 13 rfl rfl)
theorem dX0_where_15 : decode cX0_where 15 = .ok (.iconst 1, 1) := dk_4 (dk_at dksX0_where_0 15 rfl rfl)
theorem dX0_where_16 : decode cX0_where 16 = .ok (.ireturn, 1) := dk_172 (dk_at dksX0_where_0 16 rfl rfl)
theorem dX0_where_17 : decode cX0_where 17 = .ok (.astore 4, 2) := dk_58 4 (dk_at dksX0_where_0 17 rfl rfl)
theorem dX0_where_19 : decode cX0_where 19 = .ok (.iconst 2, 1) := dk_5 (dk_at dksX0_where_0 19 rfl rfl)
theorem dX0_where_20 : decode cX0_where 20 = .ok (.ireturn, 1) := dk_172 (dk_at dksX0_where_0 20 rfl rfl)
theorem dX0_where_21 : decode cX0_where 21 = .ok (.iconst 0, 1) := dk_3 (dk_at dksX0_where_0 21 rfl rfl)
theorem dX0_where_22 : decode cX0_where 22 = .ok (.ireturn, 1) := dk_172 (dk_at dksX0_where_0 22 rfl rfl)
abbrev cX0_first : ByteArray := method_15_code
def yX0_first : MethodName := ⟨RX0, "first", "(LTwinInk;II[J)I"⟩
def dkwX0_first_0 : List UInt8 := [45, 3, 42, 27, 28, 182, 0, 53, 133, 80, 167, 0, 7, 58, 4, 4, 172, 3, 172]
abbrev dktX0_first_0 : List UInt8 := dkwX0_first_0 ++ []
theorem dksX0_first_0 : cX0_first.data.toList.drop 0 = dktX0_first_0 := by decide +kernel
theorem dX0_first_0 : decode cX0_first 0 = .ok (.aload_n 3, 1) := dk_45 (dk_at dksX0_first_0 0 rfl rfl)
theorem dX0_first_1 : decode cX0_first 1 = .ok (.iconst 0, 1) := dk_3 (dk_at dksX0_first_0 1 rfl rfl)
theorem dX0_first_2 : decode cX0_first 2 = .ok (.aload_n 0, 1) := dk_42 (dk_at dksX0_first_0 2 rfl rfl)
theorem dX0_first_3 : decode cX0_first 3 = .ok (.iload_n 1, 1) := dk_27 (dk_at dksX0_first_0 3 rfl rfl)
theorem dX0_first_4 : decode cX0_first 4 = .ok (.iload_n 2, 1) := dk_28 (dk_at dksX0_first_0 4 rfl rfl)
theorem dX0_first_5 : decode cX0_first 5 = .ok (.invokevirtual 53, 3) := dk_182 0 53 (dk_at dksX0_first_0 5 rfl rfl)
theorem dX0_first_8 : decode cX0_first 8 = .ok (.i2l, 1) := dk_133 (dk_at dksX0_first_0 8 rfl rfl)
theorem dX0_first_9 : decode cX0_first 9 = .ok (.lastore, 1) := dk_80 (dk_at dksX0_first_0 9 rfl rfl)
theorem dX0_first_10 : decode cX0_first 10 = .ok (.goto 7, 3) := dk_167 0 7 (dk_at dksX0_first_0 10 rfl rfl)
theorem dX0_first_13 : decode cX0_first 13 = .ok (.astore 4, 2) := dk_58 4 (dk_at dksX0_first_0 13 rfl rfl)
theorem dX0_first_15 : decode cX0_first 15 = .ok (.iconst 1, 1) := dk_4 (dk_at dksX0_first_0 15 rfl rfl)
theorem dX0_first_16 : decode cX0_first 16 = .ok (.ireturn, 1) := dk_172 (dk_at dksX0_first_0 16 rfl rfl)
theorem dX0_first_17 : decode cX0_first 17 = .ok (.iconst 0, 1) := dk_3 (dk_at dksX0_first_0 17 rfl rfl)
theorem dX0_first_18 : decode cX0_first 18 = .ok (.ireturn, 1) := dk_172 (dk_at dksX0_first_0 18 rfl rfl)
abbrev cX0_read : ByteArray := method_16_code
def yX0_read : MethodName := ⟨RX0, "read", "(LTwinInk;II[J)I"⟩
def dkwX0_read_0 : List UInt8 := [45, 3, 42, 27, 28, 182, 0, 56, 133, 80, 167, 0, 11, 58, 4, 4, 172, 58, 4, 5, 172, 3, 172]
abbrev dktX0_read_0 : List UInt8 := dkwX0_read_0 ++ []
theorem dksX0_read_0 : cX0_read.data.toList.drop 0 = dktX0_read_0 := by decide +kernel
theorem dX0_read_0 : decode cX0_read 0 = .ok (.aload_n 3, 1) := dk_45 (dk_at dksX0_read_0 0 rfl rfl)
theorem dX0_read_1 : decode cX0_read 1 = .ok (.iconst 0, 1) := dk_3 (dk_at dksX0_read_0 1 rfl rfl)
theorem dX0_read_2 : decode cX0_read 2 = .ok (.aload_n 0, 1) := dk_42 (dk_at dksX0_read_0 2 rfl rfl)
theorem dX0_read_3 : decode cX0_read 3 = .ok (.iload_n 1, 1) := dk_27 (dk_at dksX0_read_0 3 rfl rfl)
theorem dX0_read_4 : decode cX0_read 4 = .ok (.iload_n 2, 1) := dk_28 (dk_at dksX0_read_0 4 rfl rfl)
theorem dX0_read_5 : decode cX0_read 5 = .ok (.invokevirtual 56, 3) := dk_182 0 56 (dk_at dksX0_read_0 5 rfl rfl)
theorem dX0_read_8 : decode cX0_read 8 = .ok (.i2l, 1) := dk_133 (dk_at dksX0_read_0 8 rfl rfl)
theorem dX0_read_9 : decode cX0_read 9 = .ok (.lastore, 1) := dk_80 (dk_at dksX0_read_0 9 rfl rfl)
theorem dX0_read_10 : decode cX0_read 10 = .ok (.goto 11, 3) := dk_167 0 11 (dk_at dksX0_read_0 10 rfl rfl)
theorem dX0_read_13 : decode cX0_read 13 = .ok (.astore 4, 2) := dk_58 4 (dk_at dksX0_read_0 13 rfl rfl)
theorem dX0_read_15 : decode cX0_read 15 = .ok (.iconst 1, 1) := dk_4 (dk_at dksX0_read_0 15 rfl rfl)
theorem dX0_read_16 : decode cX0_read 16 = .ok (.ireturn, 1) := dk_172 (dk_at dksX0_read_0 16 rfl rfl)
theorem dX0_read_17 : decode cX0_read 17 = .ok (.astore 4, 2) := dk_58 4 (dk_at dksX0_read_0 17 rfl rfl)
theorem dX0_read_19 : decode cX0_read 19 = .ok (.iconst 2, 1) := dk_5 (dk_at dksX0_read_0 19 rfl rfl)
theorem dX0_read_20 : decode cX0_read 20 = .ok (.ireturn, 1) := dk_172 (dk_at dksX0_read_0 20 rfl rfl)
theorem dX0_read_21 : decode cX0_read 21 = .ok (.iconst 0, 1) := dk_3 (dk_at dksX0_read_0 21 rfl rfl)
theorem dX0_read_22 : decode cX0_read 22 = .ok (.ireturn, 1) := dk_172 (dk_at dksX0_read_0 22 rfl rfl)
abbrev cX0_mould : ByteArray := method_17_code
def yX0_mould : MethodName := ⟨RX0, "mould", "(LTwinInk;I[J)I"⟩
def dkwX0_mould_0 : List UInt8 := [44, 3, 42, 27, 182, 0, 59, 133, 80, 167, 0, 6, 78, 4, 172, 3, 172]
abbrev dktX0_mould_0 : List UInt8 := dkwX0_mould_0 ++ []
theorem dksX0_mould_0 : cX0_mould.data.toList.drop 0 = dktX0_mould_0 := by decide +kernel
theorem dX0_mould_0 : decode cX0_mould 0 = .ok (.aload_n 2, 1) := dk_44 (dk_at dksX0_mould_0 0 rfl rfl)
theorem dX0_mould_1 : decode cX0_mould 1 = .ok (.iconst 0, 1) := dk_3 (dk_at dksX0_mould_0 1 rfl rfl)
theorem dX0_mould_2 : decode cX0_mould 2 = .ok (.aload_n 0, 1) := dk_42 (dk_at dksX0_mould_0 2 rfl rfl)
theorem dX0_mould_3 : decode cX0_mould 3 = .ok (.iload_n 1, 1) := dk_27 (dk_at dksX0_mould_0 3 rfl rfl)
theorem dX0_mould_4 : decode cX0_mould 4 = .ok (.invokevirtual 59, 3) := dk_182 0 59 (dk_at dksX0_mould_0 4 rfl rfl)
theorem dX0_mould_7 : decode cX0_mould 7 = .ok (.i2l, 1) := dk_133 (dk_at dksX0_mould_0 7 rfl rfl)
theorem dX0_mould_8 : decode cX0_mould 8 = .ok (.lastore, 1) := dk_80 (dk_at dksX0_mould_0 8 rfl rfl)
theorem dX0_mould_9 : decode cX0_mould 9 = .ok (.goto 6, 3) := dk_167 0 6 (dk_at dksX0_mould_0 9 rfl rfl)
theorem dX0_mould_12 : decode cX0_mould 12 = .ok (.astore_n 3, 1) := dk_78 (dk_at dksX0_mould_0 12 rfl rfl)
theorem dX0_mould_13 : decode cX0_mould 13 = .ok (.iconst 1, 1) := dk_4 (dk_at dksX0_mould_0 13 rfl rfl)
theorem dX0_mould_14 : decode cX0_mould 14 = .ok (.ireturn, 1) := dk_172 (dk_at dksX0_mould_0 14 rfl rfl)
theorem dX0_mould_15 : decode cX0_mould 15 = .ok (.iconst 0, 1) := dk_3 (dk_at dksX0_mould_0 15 rfl rfl)
theorem dX0_mould_16 : decode cX0_mould 16 = .ok (.ireturn, 1) := dk_172 (dk_at dksX0_mould_0 16 rfl rfl)
abbrev cX0_meet : ByteArray := method_18_code
def yX0_meet : MethodName := ⟨RX0, "meet", "(LTwinInk;II[J)I"⟩
def dkwX0_meet_0 : List UInt8 := [45, 3, 42, 27, 28, 182, 0, 62, 133, 80, 167, 0, 7, 58, 4, 4, 172, 3, 172]
abbrev dktX0_meet_0 : List UInt8 := dkwX0_meet_0 ++ []
theorem dksX0_meet_0 : cX0_meet.data.toList.drop 0 = dktX0_meet_0 := by decide +kernel
theorem dX0_meet_0 : decode cX0_meet 0 = .ok (.aload_n 3, 1) := dk_45 (dk_at dksX0_meet_0 0 rfl rfl)
theorem dX0_meet_1 : decode cX0_meet 1 = .ok (.iconst 0, 1) := dk_3 (dk_at dksX0_meet_0 1 rfl rfl)
theorem dX0_meet_2 : decode cX0_meet 2 = .ok (.aload_n 0, 1) := dk_42 (dk_at dksX0_meet_0 2 rfl rfl)
theorem dX0_meet_3 : decode cX0_meet 3 = .ok (.iload_n 1, 1) := dk_27 (dk_at dksX0_meet_0 3 rfl rfl)
theorem dX0_meet_4 : decode cX0_meet 4 = .ok (.iload_n 2, 1) := dk_28 (dk_at dksX0_meet_0 4 rfl rfl)
theorem dX0_meet_5 : decode cX0_meet 5 = .ok (.invokevirtual 62, 3) := dk_182 0 62 (dk_at dksX0_meet_0 5 rfl rfl)
theorem dX0_meet_8 : decode cX0_meet 8 = .ok (.i2l, 1) := dk_133 (dk_at dksX0_meet_0 8 rfl rfl)
theorem dX0_meet_9 : decode cX0_meet 9 = .ok (.lastore, 1) := dk_80 (dk_at dksX0_meet_0 9 rfl rfl)
theorem dX0_meet_10 : decode cX0_meet 10 = .ok (.goto 7, 3) := dk_167 0 7 (dk_at dksX0_meet_0 10 rfl rfl)
theorem dX0_meet_13 : decode cX0_meet 13 = .ok (.astore 4, 2) := dk_58 4 (dk_at dksX0_meet_0 13 rfl rfl)
theorem dX0_meet_15 : decode cX0_meet 15 = .ok (.iconst 1, 1) := dk_4 (dk_at dksX0_meet_0 15 rfl rfl)
theorem dX0_meet_16 : decode cX0_meet 16 = .ok (.ireturn, 1) := dk_172 (dk_at dksX0_meet_0 16 rfl rfl)
theorem dX0_meet_17 : decode cX0_meet 17 = .ok (.iconst 0, 1) := dk_3 (dk_at dksX0_meet_0 17 rfl rfl)
theorem dX0_meet_18 : decode cX0_meet 18 = .ok (.ireturn, 1) := dk_172 (dk_at dksX0_meet_0 18 rfl rfl)
abbrev cX0_gathering : ByteArray := method_19_code
def yX0_gathering : MethodName := ⟨RX0, "gathering", "(LTwinInk;I[J)I"⟩
def dkwX0_gathering_0 : List UInt8 := [44, 3, 42, 27, 182, 0, 65, 133, 80, 167, 0, 6, 78, 4, 172, 3, 172]
abbrev dktX0_gathering_0 : List UInt8 := dkwX0_gathering_0 ++ []
theorem dksX0_gathering_0 : cX0_gathering.data.toList.drop 0 = dktX0_gathering_0 := by decide +kernel
theorem dX0_gathering_0 : decode cX0_gathering 0 = .ok (.aload_n 2, 1) := dk_44 (dk_at dksX0_gathering_0 0 rfl rfl)
theorem dX0_gathering_1 : decode cX0_gathering 1 = .ok (.iconst 0, 1) := dk_3 (dk_at dksX0_gathering_0 1 rfl rfl)
theorem dX0_gathering_2 : decode cX0_gathering 2 = .ok (.aload_n 0, 1) := dk_42 (dk_at dksX0_gathering_0 2 rfl rfl)
theorem dX0_gathering_3 : decode cX0_gathering 3 = .ok (.iload_n 1, 1) := dk_27 (dk_at dksX0_gathering_0 3 rfl rfl)
theorem dX0_gathering_4 : decode cX0_gathering 4 = .ok (.invokevirtual 65, 3) := dk_182 0 65 (dk_at dksX0_gathering_0 4 rfl rfl)
theorem dX0_gathering_7 : decode cX0_gathering 7 = .ok (.i2l, 1) := dk_133 (dk_at dksX0_gathering_0 7 rfl rfl)
theorem dX0_gathering_8 : decode cX0_gathering 8 = .ok (.lastore, 1) := dk_80 (dk_at dksX0_gathering_0 8 rfl rfl)
theorem dX0_gathering_9 : decode cX0_gathering 9 = .ok (.goto 6, 3) := dk_167 0 6 (dk_at dksX0_gathering_0 9 rfl rfl)
theorem dX0_gathering_12 : decode cX0_gathering 12 = .ok (.astore_n 3, 1) := dk_78 (dk_at dksX0_gathering_0 12 rfl rfl)
theorem dX0_gathering_13 : decode cX0_gathering 13 = .ok (.iconst 1, 1) := dk_4 (dk_at dksX0_gathering_0 13 rfl rfl)
theorem dX0_gathering_14 : decode cX0_gathering 14 = .ok (.ireturn, 1) := dk_172 (dk_at dksX0_gathering_0 14 rfl rfl)
theorem dX0_gathering_15 : decode cX0_gathering 15 = .ok (.iconst 0, 1) := dk_3 (dk_at dksX0_gathering_0 15 rfl rfl)
theorem dX0_gathering_16 : decode cX0_gathering 16 = .ok (.ireturn, 1) := dk_172 (dk_at dksX0_gathering_0 16 rfl rfl)
abbrev cX0_row : ByteArray := method_20_code
def yX0_row : MethodName := ⟨RX0, "row", "(LTwinInk;I[J)I"⟩
def dkwX0_row_0 : List UInt8 := [44, 3, 42, 27, 182, 0, 68, 133, 80, 167, 0, 6, 78, 4, 172, 3, 172]
abbrev dktX0_row_0 : List UInt8 := dkwX0_row_0 ++ []
theorem dksX0_row_0 : cX0_row.data.toList.drop 0 = dktX0_row_0 := by decide +kernel
theorem dX0_row_0 : decode cX0_row 0 = .ok (.aload_n 2, 1) := dk_44 (dk_at dksX0_row_0 0 rfl rfl)
theorem dX0_row_1 : decode cX0_row 1 = .ok (.iconst 0, 1) := dk_3 (dk_at dksX0_row_0 1 rfl rfl)
theorem dX0_row_2 : decode cX0_row 2 = .ok (.aload_n 0, 1) := dk_42 (dk_at dksX0_row_0 2 rfl rfl)
theorem dX0_row_3 : decode cX0_row 3 = .ok (.iload_n 1, 1) := dk_27 (dk_at dksX0_row_0 3 rfl rfl)
theorem dX0_row_4 : decode cX0_row 4 = .ok (.invokevirtual 68, 3) := dk_182 0 68 (dk_at dksX0_row_0 4 rfl rfl)
theorem dX0_row_7 : decode cX0_row 7 = .ok (.i2l, 1) := dk_133 (dk_at dksX0_row_0 7 rfl rfl)
theorem dX0_row_8 : decode cX0_row 8 = .ok (.lastore, 1) := dk_80 (dk_at dksX0_row_0 8 rfl rfl)
theorem dX0_row_9 : decode cX0_row 9 = .ok (.goto 6, 3) := dk_167 0 6 (dk_at dksX0_row_0 9 rfl rfl)
theorem dX0_row_12 : decode cX0_row 12 = .ok (.astore_n 3, 1) := dk_78 (dk_at dksX0_row_0 12 rfl rfl)
theorem dX0_row_13 : decode cX0_row 13 = .ok (.iconst 1, 1) := dk_4 (dk_at dksX0_row_0 13 rfl rfl)
theorem dX0_row_14 : decode cX0_row 14 = .ok (.ireturn, 1) := dk_172 (dk_at dksX0_row_0 14 rfl rfl)
theorem dX0_row_15 : decode cX0_row 15 = .ok (.iconst 0, 1) := dk_3 (dk_at dksX0_row_0 15 rfl rfl)
theorem dX0_row_16 : decode cX0_row 16 = .ok (.ireturn, 1) := dk_172 (dk_at dksX0_row_0 16 rfl rfl)
abbrev cX0_toForge : ByteArray := method_21_code
def yX0_toForge : MethodName := ⟨RX0, "toForge", "(LTwinInk;II[J)I"⟩
def dkwX0_toForge_0 : List UInt8 := [45, 3, 42, 27, 28, 182, 0, 71, 133, 80, 167, 0, 7, 58, 4, 4, 172, 3, 172]
abbrev dktX0_toForge_0 : List UInt8 := dkwX0_toForge_0 ++ []
theorem dksX0_toForge_0 : cX0_toForge.data.toList.drop 0 = dktX0_toForge_0 := by decide +kernel
theorem dX0_toForge_0 : decode cX0_toForge 0 = .ok (.aload_n 3, 1) := dk_45 (dk_at dksX0_toForge_0 0 rfl rfl)
theorem dX0_toForge_1 : decode cX0_toForge 1 = .ok (.iconst 0, 1) := dk_3 (dk_at dksX0_toForge_0 1 rfl rfl)
theorem dX0_toForge_2 : decode cX0_toForge 2 = .ok (.aload_n 0, 1) := dk_42 (dk_at dksX0_toForge_0 2 rfl rfl)
theorem dX0_toForge_3 : decode cX0_toForge 3 = .ok (.iload_n 1, 1) := dk_27 (dk_at dksX0_toForge_0 3 rfl rfl)
theorem dX0_toForge_4 : decode cX0_toForge 4 = .ok (.iload_n 2, 1) := dk_28 (dk_at dksX0_toForge_0 4 rfl rfl)
theorem dX0_toForge_5 : decode cX0_toForge 5 = .ok (.invokevirtual 71, 3) := dk_182 0 71 (dk_at dksX0_toForge_0 5 rfl rfl)
theorem dX0_toForge_8 : decode cX0_toForge 8 = .ok (.i2l, 1) := dk_133 (dk_at dksX0_toForge_0 8 rfl rfl)
theorem dX0_toForge_9 : decode cX0_toForge 9 = .ok (.lastore, 1) := dk_80 (dk_at dksX0_toForge_0 9 rfl rfl)
theorem dX0_toForge_10 : decode cX0_toForge 10 = .ok (.goto 7, 3) := dk_167 0 7 (dk_at dksX0_toForge_0 10 rfl rfl)
theorem dX0_toForge_13 : decode cX0_toForge 13 = .ok (.astore 4, 2) := dk_58 4 (dk_at dksX0_toForge_0 13 rfl rfl)
theorem dX0_toForge_15 : decode cX0_toForge 15 = .ok (.iconst 1, 1) := dk_4 (dk_at dksX0_toForge_0 15 rfl rfl)
theorem dX0_toForge_16 : decode cX0_toForge 16 = .ok (.ireturn, 1) := dk_172 (dk_at dksX0_toForge_0 16 rfl rfl)
theorem dX0_toForge_17 : decode cX0_toForge 17 = .ok (.iconst 0, 1) := dk_3 (dk_at dksX0_toForge_0 17 rfl rfl)
theorem dX0_toForge_18 : decode cX0_toForge 18 = .ok (.ireturn, 1) := dk_172 (dk_at dksX0_toForge_0 18 rfl rfl)
abbrev cX0_toSave : ByteArray := method_22_code
def yX0_toSave : MethodName := ⟨RX0, "toSave", "(LTwinInk;I[J)I"⟩
def dkwX0_toSave_0 : List UInt8 := [44, 3, 42, 27, 182, 0, 74, 133, 80, 167, 0, 6, 78, 4, 172, 3, 172]
abbrev dktX0_toSave_0 : List UInt8 := dkwX0_toSave_0 ++ []
theorem dksX0_toSave_0 : cX0_toSave.data.toList.drop 0 = dktX0_toSave_0 := by decide +kernel
theorem dX0_toSave_0 : decode cX0_toSave 0 = .ok (.aload_n 2, 1) := dk_44 (dk_at dksX0_toSave_0 0 rfl rfl)
theorem dX0_toSave_1 : decode cX0_toSave 1 = .ok (.iconst 0, 1) := dk_3 (dk_at dksX0_toSave_0 1 rfl rfl)
theorem dX0_toSave_2 : decode cX0_toSave 2 = .ok (.aload_n 0, 1) := dk_42 (dk_at dksX0_toSave_0 2 rfl rfl)
theorem dX0_toSave_3 : decode cX0_toSave 3 = .ok (.iload_n 1, 1) := dk_27 (dk_at dksX0_toSave_0 3 rfl rfl)
theorem dX0_toSave_4 : decode cX0_toSave 4 = .ok (.invokevirtual 74, 3) := dk_182 0 74 (dk_at dksX0_toSave_0 4 rfl rfl)
theorem dX0_toSave_7 : decode cX0_toSave 7 = .ok (.i2l, 1) := dk_133 (dk_at dksX0_toSave_0 7 rfl rfl)
theorem dX0_toSave_8 : decode cX0_toSave 8 = .ok (.lastore, 1) := dk_80 (dk_at dksX0_toSave_0 8 rfl rfl)
theorem dX0_toSave_9 : decode cX0_toSave 9 = .ok (.goto 6, 3) := dk_167 0 6 (dk_at dksX0_toSave_0 9 rfl rfl)
theorem dX0_toSave_12 : decode cX0_toSave 12 = .ok (.astore_n 3, 1) := dk_78 (dk_at dksX0_toSave_0 12 rfl rfl)
theorem dX0_toSave_13 : decode cX0_toSave 13 = .ok (.iconst 1, 1) := dk_4 (dk_at dksX0_toSave_0 13 rfl rfl)
theorem dX0_toSave_14 : decode cX0_toSave 14 = .ok (.ireturn, 1) := dk_172 (dk_at dksX0_toSave_0 14 rfl rfl)
theorem dX0_toSave_15 : decode cX0_toSave 15 = .ok (.iconst 0, 1) := dk_3 (dk_at dksX0_toSave_0 15 rfl rfl)
theorem dX0_toSave_16 : decode cX0_toSave 16 = .ok (.ireturn, 1) := dk_172 (dk_at dksX0_toSave_0 16 rfl rfl)
abbrev cX0_chain : ByteArray := method_23_code
def yX0_chain : MethodName := ⟨RX0, "chain", "(LTwinInk;II[J)I"⟩
def dkwX0_chain_0 : List UInt8 := [45, 3, 42, 27, 28, 182, 0, 77, 133, 80, 167, 0, 7, 58, 4, 4, 172, 3, 172]
abbrev dktX0_chain_0 : List UInt8 := dkwX0_chain_0 ++ []
theorem dksX0_chain_0 : cX0_chain.data.toList.drop 0 = dktX0_chain_0 := by decide +kernel
theorem dX0_chain_0 : decode cX0_chain 0 = .ok (.aload_n 3, 1) := dk_45 (dk_at dksX0_chain_0 0 rfl rfl)
theorem dX0_chain_1 : decode cX0_chain 1 = .ok (.iconst 0, 1) := dk_3 (dk_at dksX0_chain_0 1 rfl rfl)
theorem dX0_chain_2 : decode cX0_chain 2 = .ok (.aload_n 0, 1) := dk_42 (dk_at dksX0_chain_0 2 rfl rfl)
theorem dX0_chain_3 : decode cX0_chain 3 = .ok (.iload_n 1, 1) := dk_27 (dk_at dksX0_chain_0 3 rfl rfl)
theorem dX0_chain_4 : decode cX0_chain 4 = .ok (.iload_n 2, 1) := dk_28 (dk_at dksX0_chain_0 4 rfl rfl)
theorem dX0_chain_5 : decode cX0_chain 5 = .ok (.invokevirtual 77, 3) := dk_182 0 77 (dk_at dksX0_chain_0 5 rfl rfl)
theorem dX0_chain_8 : decode cX0_chain 8 = .ok (.i2l, 1) := dk_133 (dk_at dksX0_chain_0 8 rfl rfl)
theorem dX0_chain_9 : decode cX0_chain 9 = .ok (.lastore, 1) := dk_80 (dk_at dksX0_chain_0 9 rfl rfl)
theorem dX0_chain_10 : decode cX0_chain 10 = .ok (.goto 7, 3) := dk_167 0 7 (dk_at dksX0_chain_0 10 rfl rfl)
theorem dX0_chain_13 : decode cX0_chain 13 = .ok (.astore 4, 2) := dk_58 4 (dk_at dksX0_chain_0 13 rfl rfl)
theorem dX0_chain_15 : decode cX0_chain 15 = .ok (.iconst 1, 1) := dk_4 (dk_at dksX0_chain_0 15 rfl rfl)
theorem dX0_chain_16 : decode cX0_chain 16 = .ok (.ireturn, 1) := dk_172 (dk_at dksX0_chain_0 16 rfl rfl)
theorem dX0_chain_17 : decode cX0_chain 17 = .ok (.iconst 0, 1) := dk_3 (dk_at dksX0_chain_0 17 rfl rfl)
theorem dX0_chain_18 : decode cX0_chain 18 = .ok (.ireturn, 1) := dk_172 (dk_at dksX0_chain_0 18 rfl rfl)
abbrev cX0_hear : ByteArray := method_24_code
def yX0_hear : MethodName := ⟨RX0, "hear", "(LTwinInk;IIIZ[J)I"⟩
def dkwX0_hear_0 : List UInt8 := [25, 5, 3, 42, 27, 28, 29, 21, 4, 182, 0, 80, 133, 80, 167, 0, 7, 58, 6, 4, 172, 3, 172]
abbrev dktX0_hear_0 : List UInt8 := dkwX0_hear_0 ++ []
theorem dksX0_hear_0 : cX0_hear.data.toList.drop 0 = dktX0_hear_0 := by decide +kernel
theorem dX0_hear_0 : decode cX0_hear 0 = .ok (.aload 5, 2) := dk_25 5 (dk_at dksX0_hear_0 0 rfl rfl)
theorem dX0_hear_2 : decode cX0_hear 2 = .ok (.iconst 0, 1) := dk_3 (dk_at dksX0_hear_0 2 rfl rfl)
theorem dX0_hear_3 : decode cX0_hear 3 = .ok (.aload_n 0, 1) := dk_42 (dk_at dksX0_hear_0 3 rfl rfl)
theorem dX0_hear_4 : decode cX0_hear 4 = .ok (.iload_n 1, 1) := dk_27 (dk_at dksX0_hear_0 4 rfl rfl)
theorem dX0_hear_5 : decode cX0_hear 5 = .ok (.iload_n 2, 1) := dk_28 (dk_at dksX0_hear_0 5 rfl rfl)
theorem dX0_hear_6 : decode cX0_hear 6 = .ok (.iload_n 3, 1) := dk_29 (dk_at dksX0_hear_0 6 rfl rfl)
theorem dX0_hear_7 : decode cX0_hear 7 = .ok (.iload 4, 2) := dk_21 4 (dk_at dksX0_hear_0 7 rfl rfl)
theorem dX0_hear_9 : decode cX0_hear 9 = .ok (.invokevirtual 80, 3) := dk_182 0 80 (dk_at dksX0_hear_0 9 rfl rfl)
theorem dX0_hear_12 : decode cX0_hear 12 = .ok (.i2l, 1) := dk_133 (dk_at dksX0_hear_0 12 rfl rfl)
theorem dX0_hear_13 : decode cX0_hear 13 = .ok (.lastore, 1) := dk_80 (dk_at dksX0_hear_0 13 rfl rfl)
theorem dX0_hear_14 : decode cX0_hear 14 = .ok (.goto 7, 3) := dk_167 0 7 (dk_at dksX0_hear_0 14 rfl rfl)
theorem dX0_hear_17 : decode cX0_hear 17 = .ok (.astore 6, 2) := dk_58 6 (dk_at dksX0_hear_0 17 rfl rfl)
theorem dX0_hear_19 : decode cX0_hear 19 = .ok (.iconst 1, 1) := dk_4 (dk_at dksX0_hear_0 19 rfl rfl)
theorem dX0_hear_20 : decode cX0_hear 20 = .ok (.ireturn, 1) := dk_172 (dk_at dksX0_hear_0 20 rfl rfl)
theorem dX0_hear_21 : decode cX0_hear 21 = .ok (.iconst 0, 1) := dk_3 (dk_at dksX0_hear_0 21 rfl rfl)
theorem dX0_hear_22 : decode cX0_hear 22 = .ok (.ireturn, 1) := dk_172 (dk_at dksX0_hear_0 22 rfl rfl)
abbrev cX0_borne : ByteArray := method_25_code
def yX0_borne : MethodName := ⟨RX0, "borne", "(LTwinInk;I[J)I"⟩
def dkwX0_borne_0 : List UInt8 := [44, 3, 42, 27, 182, 0, 84, 133, 80, 167, 0, 6, 78, 4, 172, 3, 172]
abbrev dktX0_borne_0 : List UInt8 := dkwX0_borne_0 ++ []
theorem dksX0_borne_0 : cX0_borne.data.toList.drop 0 = dktX0_borne_0 := by decide +kernel
theorem dX0_borne_0 : decode cX0_borne 0 = .ok (.aload_n 2, 1) := dk_44 (dk_at dksX0_borne_0 0 rfl rfl)
theorem dX0_borne_1 : decode cX0_borne 1 = .ok (.iconst 0, 1) := dk_3 (dk_at dksX0_borne_0 1 rfl rfl)
theorem dX0_borne_2 : decode cX0_borne 2 = .ok (.aload_n 0, 1) := dk_42 (dk_at dksX0_borne_0 2 rfl rfl)
theorem dX0_borne_3 : decode cX0_borne 3 = .ok (.iload_n 1, 1) := dk_27 (dk_at dksX0_borne_0 3 rfl rfl)
theorem dX0_borne_4 : decode cX0_borne 4 = .ok (.invokevirtual 84, 3) := dk_182 0 84 (dk_at dksX0_borne_0 4 rfl rfl)
theorem dX0_borne_7 : decode cX0_borne 7 = .ok (.i2l, 1) := dk_133 (dk_at dksX0_borne_0 7 rfl rfl)
theorem dX0_borne_8 : decode cX0_borne 8 = .ok (.lastore, 1) := dk_80 (dk_at dksX0_borne_0 8 rfl rfl)
theorem dX0_borne_9 : decode cX0_borne 9 = .ok (.goto 6, 3) := dk_167 0 6 (dk_at dksX0_borne_0 9 rfl rfl)
theorem dX0_borne_12 : decode cX0_borne 12 = .ok (.astore_n 3, 1) := dk_78 (dk_at dksX0_borne_0 12 rfl rfl)
theorem dX0_borne_13 : decode cX0_borne 13 = .ok (.iconst 1, 1) := dk_4 (dk_at dksX0_borne_0 13 rfl rfl)
theorem dX0_borne_14 : decode cX0_borne 14 = .ok (.ireturn, 1) := dk_172 (dk_at dksX0_borne_0 14 rfl rfl)
theorem dX0_borne_15 : decode cX0_borne 15 = .ok (.iconst 0, 1) := dk_3 (dk_at dksX0_borne_0 15 rfl rfl)
theorem dX0_borne_16 : decode cX0_borne 16 = .ok (.ireturn, 1) := dk_172 (dk_at dksX0_borne_0 16 rfl rfl)
abbrev cX0_ask : ByteArray := method_26_code
def yX0_ask : MethodName := ⟨RX0, "ask", "(LTwinInk;I[J)I"⟩
def dkwX0_ask_0 : List UInt8 := [44, 3, 42, 27, 182, 0, 87, 133, 80, 167, 0, 6, 78, 4, 172, 3, 172]
abbrev dktX0_ask_0 : List UInt8 := dkwX0_ask_0 ++ []
theorem dksX0_ask_0 : cX0_ask.data.toList.drop 0 = dktX0_ask_0 := by decide +kernel
theorem dX0_ask_0 : decode cX0_ask 0 = .ok (.aload_n 2, 1) := dk_44 (dk_at dksX0_ask_0 0 rfl rfl)
theorem dX0_ask_1 : decode cX0_ask 1 = .ok (.iconst 0, 1) := dk_3 (dk_at dksX0_ask_0 1 rfl rfl)
theorem dX0_ask_2 : decode cX0_ask 2 = .ok (.aload_n 0, 1) := dk_42 (dk_at dksX0_ask_0 2 rfl rfl)
theorem dX0_ask_3 : decode cX0_ask 3 = .ok (.iload_n 1, 1) := dk_27 (dk_at dksX0_ask_0 3 rfl rfl)
theorem dX0_ask_4 : decode cX0_ask 4 = .ok (.invokevirtual 87, 3) := dk_182 0 87 (dk_at dksX0_ask_0 4 rfl rfl)
theorem dX0_ask_7 : decode cX0_ask 7 = .ok (.i2l, 1) := dk_133 (dk_at dksX0_ask_0 7 rfl rfl)
theorem dX0_ask_8 : decode cX0_ask 8 = .ok (.lastore, 1) := dk_80 (dk_at dksX0_ask_0 8 rfl rfl)
theorem dX0_ask_9 : decode cX0_ask 9 = .ok (.goto 6, 3) := dk_167 0 6 (dk_at dksX0_ask_0 9 rfl rfl)
theorem dX0_ask_12 : decode cX0_ask 12 = .ok (.astore_n 3, 1) := dk_78 (dk_at dksX0_ask_0 12 rfl rfl)
theorem dX0_ask_13 : decode cX0_ask 13 = .ok (.iconst 1, 1) := dk_4 (dk_at dksX0_ask_0 13 rfl rfl)
theorem dX0_ask_14 : decode cX0_ask 14 = .ok (.ireturn, 1) := dk_172 (dk_at dksX0_ask_0 14 rfl rfl)
theorem dX0_ask_15 : decode cX0_ask 15 = .ok (.iconst 0, 1) := dk_3 (dk_at dksX0_ask_0 15 rfl rfl)
theorem dX0_ask_16 : decode cX0_ask 16 = .ok (.ireturn, 1) := dk_172 (dk_at dksX0_ask_0 16 rfl rfl)
abbrev cX0_fires : ByteArray := method_27_code
def yX0_fires : MethodName := ⟨RX0, "fires", "(LTwinInk;II[J)I"⟩
def dkwX0_fires_0 : List UInt8 := [45, 3, 42, 27, 28, 182, 0, 90, 133, 80, 167, 0, 11, 58, 4, 4, 172, 58, 4, 5, 172, 3, 172]
abbrev dktX0_fires_0 : List UInt8 := dkwX0_fires_0 ++ []
theorem dksX0_fires_0 : cX0_fires.data.toList.drop 0 = dktX0_fires_0 := by decide +kernel
theorem dX0_fires_0 : decode cX0_fires 0 = .ok (.aload_n 3, 1) := dk_45 (dk_at dksX0_fires_0 0 rfl rfl)
theorem dX0_fires_1 : decode cX0_fires 1 = .ok (.iconst 0, 1) := dk_3 (dk_at dksX0_fires_0 1 rfl rfl)
theorem dX0_fires_2 : decode cX0_fires 2 = .ok (.aload_n 0, 1) := dk_42 (dk_at dksX0_fires_0 2 rfl rfl)
theorem dX0_fires_3 : decode cX0_fires 3 = .ok (.iload_n 1, 1) := dk_27 (dk_at dksX0_fires_0 3 rfl rfl)
theorem dX0_fires_4 : decode cX0_fires 4 = .ok (.iload_n 2, 1) := dk_28 (dk_at dksX0_fires_0 4 rfl rfl)
theorem dX0_fires_5 : decode cX0_fires 5 = .ok (.invokevirtual 90, 3) := dk_182 0 90 (dk_at dksX0_fires_0 5 rfl rfl)
theorem dX0_fires_8 : decode cX0_fires 8 = .ok (.i2l, 1) := dk_133 (dk_at dksX0_fires_0 8 rfl rfl)
theorem dX0_fires_9 : decode cX0_fires 9 = .ok (.lastore, 1) := dk_80 (dk_at dksX0_fires_0 9 rfl rfl)
theorem dX0_fires_10 : decode cX0_fires 10 = .ok (.goto 11, 3) := dk_167 0 11 (dk_at dksX0_fires_0 10 rfl rfl)
theorem dX0_fires_13 : decode cX0_fires 13 = .ok (.astore 4, 2) := dk_58 4 (dk_at dksX0_fires_0 13 rfl rfl)
theorem dX0_fires_15 : decode cX0_fires 15 = .ok (.iconst 1, 1) := dk_4 (dk_at dksX0_fires_0 15 rfl rfl)
theorem dX0_fires_16 : decode cX0_fires 16 = .ok (.ireturn, 1) := dk_172 (dk_at dksX0_fires_0 16 rfl rfl)
theorem dX0_fires_17 : decode cX0_fires 17 = .ok (.astore 4, 2) := dk_58 4 (dk_at dksX0_fires_0 17 rfl rfl)
theorem dX0_fires_19 : decode cX0_fires 19 = .ok (.iconst 2, 1) := dk_5 (dk_at dksX0_fires_0 19 rfl rfl)
theorem dX0_fires_20 : decode cX0_fires 20 = .ok (.ireturn, 1) := dk_172 (dk_at dksX0_fires_0 20 rfl rfl)
theorem dX0_fires_21 : decode cX0_fires 21 = .ok (.iconst 0, 1) := dk_3 (dk_at dksX0_fires_0 21 rfl rfl)
theorem dX0_fires_22 : decode cX0_fires 22 = .ok (.ireturn, 1) := dk_172 (dk_at dksX0_fires_0 22 rfl rfl)
abbrev cX0_game : ByteArray := method_28_code
def yX0_game : MethodName := ⟨RX0, "game", "(LTwinInk;III[J)I"⟩
def dkwX0_game_1 : List UInt8 := [172]
abbrev dktX0_game_1 : List UInt8 := dkwX0_game_1 ++ []
def dkwX0_game_0 : List UInt8 := [25, 4, 3, 42, 27, 28, 29, 182, 0, 93, 133, 80, 167, 0, 11, 58, 5, 4, 172, 58, 5, 5, 172, 3]
abbrev dktX0_game_0 : List UInt8 := dkwX0_game_0 ++ dktX0_game_1
theorem dksX0_game_0 : cX0_game.data.toList.drop 0 = dktX0_game_0 := by decide +kernel
theorem dksX0_game_1 : cX0_game.data.toList.drop 24 = dktX0_game_1 := dk_seg dksX0_game_0 24 rfl rfl
theorem dX0_game_0 : decode cX0_game 0 = .ok (.aload 4, 2) := dk_25 4 (dk_at dksX0_game_0 0 rfl rfl)
theorem dX0_game_2 : decode cX0_game 2 = .ok (.iconst 0, 1) := dk_3 (dk_at dksX0_game_0 2 rfl rfl)
theorem dX0_game_3 : decode cX0_game 3 = .ok (.aload_n 0, 1) := dk_42 (dk_at dksX0_game_0 3 rfl rfl)
theorem dX0_game_4 : decode cX0_game 4 = .ok (.iload_n 1, 1) := dk_27 (dk_at dksX0_game_0 4 rfl rfl)
theorem dX0_game_5 : decode cX0_game 5 = .ok (.iload_n 2, 1) := dk_28 (dk_at dksX0_game_0 5 rfl rfl)
theorem dX0_game_6 : decode cX0_game 6 = .ok (.iload_n 3, 1) := dk_29 (dk_at dksX0_game_0 6 rfl rfl)
theorem dX0_game_7 : decode cX0_game 7 = .ok (.invokevirtual 93, 3) := dk_182 0 93 (dk_at dksX0_game_0 7 rfl rfl)
theorem dX0_game_10 : decode cX0_game 10 = .ok (.i2l, 1) := dk_133 (dk_at dksX0_game_0 10 rfl rfl)
theorem dX0_game_11 : decode cX0_game 11 = .ok (.lastore, 1) := dk_80 (dk_at dksX0_game_0 11 rfl rfl)
theorem dX0_game_12 : decode cX0_game 12 = .ok (.goto 11, 3) := dk_167 0 11 (dk_at dksX0_game_0 12 rfl rfl)
theorem dX0_game_15 : decode cX0_game 15 = .ok (.astore 5, 2) := dk_58 5 (dk_at dksX0_game_0 15 rfl rfl)
theorem dX0_game_17 : decode cX0_game 17 = .ok (.iconst 1, 1) := dk_4 (dk_at dksX0_game_0 17 rfl rfl)
theorem dX0_game_18 : decode cX0_game 18 = .ok (.ireturn, 1) := dk_172 (dk_at dksX0_game_0 18 rfl rfl)
theorem dX0_game_19 : decode cX0_game 19 = .ok (.astore 5, 2) := dk_58 5 (dk_at dksX0_game_0 19 rfl rfl)
theorem dX0_game_21 : decode cX0_game 21 = .ok (.iconst 2, 1) := dk_5 (dk_at dksX0_game_0 21 rfl rfl)
theorem dX0_game_22 : decode cX0_game 22 = .ok (.ireturn, 1) := dk_172 (dk_at dksX0_game_0 22 rfl rfl)
theorem dX0_game_23 : decode cX0_game 23 = .ok (.iconst 0, 1) := dk_3 (dk_at dksX0_game_0 23 rfl rfl)
theorem dX0_game_24 : decode cX0_game 24 = .ok (.ireturn, 1) := dk_172 (dk_at dksX0_game_1 0 rfl rfl)
abbrev cX0_years : ByteArray := method_29_code
def yX0_years : MethodName := ⟨RX0, "years", "(LTwinInk;III[J)I"⟩
def dkwX0_years_1 : List UInt8 := [172]
abbrev dktX0_years_1 : List UInt8 := dkwX0_years_1 ++ []
def dkwX0_years_0 : List UInt8 := [25, 4, 3, 42, 27, 28, 29, 182, 0, 96, 133, 80, 167, 0, 11, 58, 5, 4, 172, 58, 5, 5, 172, 3]
abbrev dktX0_years_0 : List UInt8 := dkwX0_years_0 ++ dktX0_years_1
theorem dksX0_years_0 : cX0_years.data.toList.drop 0 = dktX0_years_0 := by decide +kernel
theorem dksX0_years_1 : cX0_years.data.toList.drop 24 = dktX0_years_1 := dk_seg dksX0_years_0 24 rfl rfl
theorem dX0_years_0 : decode cX0_years 0 = .ok (.aload 4, 2) := dk_25 4 (dk_at dksX0_years_0 0 rfl rfl)
theorem dX0_years_2 : decode cX0_years 2 = .ok (.iconst 0, 1) := dk_3 (dk_at dksX0_years_0 2 rfl rfl)
theorem dX0_years_3 : decode cX0_years 3 = .ok (.aload_n 0, 1) := dk_42 (dk_at dksX0_years_0 3 rfl rfl)
theorem dX0_years_4 : decode cX0_years 4 = .ok (.iload_n 1, 1) := dk_27 (dk_at dksX0_years_0 4 rfl rfl)
theorem dX0_years_5 : decode cX0_years 5 = .ok (.iload_n 2, 1) := dk_28 (dk_at dksX0_years_0 5 rfl rfl)
theorem dX0_years_6 : decode cX0_years 6 = .ok (.iload_n 3, 1) := dk_29 (dk_at dksX0_years_0 6 rfl rfl)
theorem dX0_years_7 : decode cX0_years 7 = .ok (.invokevirtual 96, 3) := dk_182 0 96 (dk_at dksX0_years_0 7 rfl rfl)
theorem dX0_years_10 : decode cX0_years 10 = .ok (.i2l, 1) := dk_133 (dk_at dksX0_years_0 10 rfl rfl)
theorem dX0_years_11 : decode cX0_years 11 = .ok (.lastore, 1) := dk_80 (dk_at dksX0_years_0 11 rfl rfl)
theorem dX0_years_12 : decode cX0_years 12 = .ok (.goto 11, 3) := dk_167 0 11 (dk_at dksX0_years_0 12 rfl rfl)
theorem dX0_years_15 : decode cX0_years 15 = .ok (.astore 5, 2) := dk_58 5 (dk_at dksX0_years_0 15 rfl rfl)
theorem dX0_years_17 : decode cX0_years 17 = .ok (.iconst 1, 1) := dk_4 (dk_at dksX0_years_0 17 rfl rfl)
theorem dX0_years_18 : decode cX0_years 18 = .ok (.ireturn, 1) := dk_172 (dk_at dksX0_years_0 18 rfl rfl)
theorem dX0_years_19 : decode cX0_years 19 = .ok (.astore 5, 2) := dk_58 5 (dk_at dksX0_years_0 19 rfl rfl)
theorem dX0_years_21 : decode cX0_years 21 = .ok (.iconst 2, 1) := dk_5 (dk_at dksX0_years_0 21 rfl rfl)
theorem dX0_years_22 : decode cX0_years 22 = .ok (.ireturn, 1) := dk_172 (dk_at dksX0_years_0 22 rfl rfl)
theorem dX0_years_23 : decode cX0_years 23 = .ok (.iconst 0, 1) := dk_3 (dk_at dksX0_years_0 23 rfl rfl)
theorem dX0_years_24 : decode cX0_years 24 = .ok (.ireturn, 1) := dk_172 (dk_at dksX0_years_1 0 rfl rfl)
abbrev cX0_wisest : ByteArray := method_30_code
def yX0_wisest : MethodName := ⟨RX0, "wisest", "(LTwinInk;I[J)I"⟩
def dkwX0_wisest_0 : List UInt8 := [44, 3, 42, 27, 182, 0, 99, 133, 80, 167, 0, 6, 78, 4, 172, 3, 172]
abbrev dktX0_wisest_0 : List UInt8 := dkwX0_wisest_0 ++ []
theorem dksX0_wisest_0 : cX0_wisest.data.toList.drop 0 = dktX0_wisest_0 := by decide +kernel
theorem dX0_wisest_0 : decode cX0_wisest 0 = .ok (.aload_n 2, 1) := dk_44 (dk_at dksX0_wisest_0 0 rfl rfl)
theorem dX0_wisest_1 : decode cX0_wisest 1 = .ok (.iconst 0, 1) := dk_3 (dk_at dksX0_wisest_0 1 rfl rfl)
theorem dX0_wisest_2 : decode cX0_wisest 2 = .ok (.aload_n 0, 1) := dk_42 (dk_at dksX0_wisest_0 2 rfl rfl)
theorem dX0_wisest_3 : decode cX0_wisest 3 = .ok (.iload_n 1, 1) := dk_27 (dk_at dksX0_wisest_0 3 rfl rfl)
theorem dX0_wisest_4 : decode cX0_wisest 4 = .ok (.invokevirtual 99, 3) := dk_182 0 99 (dk_at dksX0_wisest_0 4 rfl rfl)
theorem dX0_wisest_7 : decode cX0_wisest 7 = .ok (.i2l, 1) := dk_133 (dk_at dksX0_wisest_0 7 rfl rfl)
theorem dX0_wisest_8 : decode cX0_wisest 8 = .ok (.lastore, 1) := dk_80 (dk_at dksX0_wisest_0 8 rfl rfl)
theorem dX0_wisest_9 : decode cX0_wisest 9 = .ok (.goto 6, 3) := dk_167 0 6 (dk_at dksX0_wisest_0 9 rfl rfl)
theorem dX0_wisest_12 : decode cX0_wisest 12 = .ok (.astore_n 3, 1) := dk_78 (dk_at dksX0_wisest_0 12 rfl rfl)
theorem dX0_wisest_13 : decode cX0_wisest 13 = .ok (.iconst 1, 1) := dk_4 (dk_at dksX0_wisest_0 13 rfl rfl)
theorem dX0_wisest_14 : decode cX0_wisest 14 = .ok (.ireturn, 1) := dk_172 (dk_at dksX0_wisest_0 14 rfl rfl)
theorem dX0_wisest_15 : decode cX0_wisest 15 = .ok (.iconst 0, 1) := dk_3 (dk_at dksX0_wisest_0 15 rfl rfl)
theorem dX0_wisest_16 : decode cX0_wisest 16 = .ok (.ireturn, 1) := dk_172 (dk_at dksX0_wisest_0 16 rfl rfl)
abbrev cX0_company : ByteArray := method_31_code
def yX0_company : MethodName := ⟨RX0, "company", "(LTwinInk;III[J)I"⟩
def dkwX0_company_1 : List UInt8 := [172]
abbrev dktX0_company_1 : List UInt8 := dkwX0_company_1 ++ []
def dkwX0_company_0 : List UInt8 := [25, 4, 3, 42, 27, 28, 29, 182, 0, 102, 133, 80, 167, 0, 11, 58, 5, 4, 172, 58, 5, 5, 172, 3]
abbrev dktX0_company_0 : List UInt8 := dkwX0_company_0 ++ dktX0_company_1
theorem dksX0_company_0 : cX0_company.data.toList.drop 0 = dktX0_company_0 := by decide +kernel
theorem dksX0_company_1 : cX0_company.data.toList.drop 24 = dktX0_company_1 := dk_seg dksX0_company_0 24 rfl rfl
theorem dX0_company_0 : decode cX0_company 0 = .ok (.aload 4, 2) := dk_25 4 (dk_at dksX0_company_0 0 rfl rfl)
theorem dX0_company_2 : decode cX0_company 2 = .ok (.iconst 0, 1) := dk_3 (dk_at dksX0_company_0 2 rfl rfl)
theorem dX0_company_3 : decode cX0_company 3 = .ok (.aload_n 0, 1) := dk_42 (dk_at dksX0_company_0 3 rfl rfl)
theorem dX0_company_4 : decode cX0_company 4 = .ok (.iload_n 1, 1) := dk_27 (dk_at dksX0_company_0 4 rfl rfl)
theorem dX0_company_5 : decode cX0_company 5 = .ok (.iload_n 2, 1) := dk_28 (dk_at dksX0_company_0 5 rfl rfl)
theorem dX0_company_6 : decode cX0_company 6 = .ok (.iload_n 3, 1) := dk_29 (dk_at dksX0_company_0 6 rfl rfl)
theorem dX0_company_7 : decode cX0_company 7 = .ok (.invokevirtual 102, 3) := dk_182 0 102 (dk_at dksX0_company_0 7 rfl rfl)
theorem dX0_company_10 : decode cX0_company 10 = .ok (.i2l, 1) := dk_133 (dk_at dksX0_company_0 10 rfl rfl)
theorem dX0_company_11 : decode cX0_company 11 = .ok (.lastore, 1) := dk_80 (dk_at dksX0_company_0 11 rfl rfl)
theorem dX0_company_12 : decode cX0_company 12 = .ok (.goto 11, 3) := dk_167 0 11 (dk_at dksX0_company_0 12 rfl rfl)
theorem dX0_company_15 : decode cX0_company 15 = .ok (.astore 5, 2) := dk_58 5 (dk_at dksX0_company_0 15 rfl rfl)
theorem dX0_company_17 : decode cX0_company 17 = .ok (.iconst 1, 1) := dk_4 (dk_at dksX0_company_0 17 rfl rfl)
theorem dX0_company_18 : decode cX0_company 18 = .ok (.ireturn, 1) := dk_172 (dk_at dksX0_company_0 18 rfl rfl)
theorem dX0_company_19 : decode cX0_company 19 = .ok (.astore 5, 2) := dk_58 5 (dk_at dksX0_company_0 19 rfl rfl)
theorem dX0_company_21 : decode cX0_company 21 = .ok (.iconst 2, 1) := dk_5 (dk_at dksX0_company_0 21 rfl rfl)
theorem dX0_company_22 : decode cX0_company 22 = .ok (.ireturn, 1) := dk_172 (dk_at dksX0_company_0 22 rfl rfl)
theorem dX0_company_23 : decode cX0_company 23 = .ok (.iconst 0, 1) := dk_3 (dk_at dksX0_company_0 23 rfl rfl)
theorem dX0_company_24 : decode cX0_company 24 = .ok (.ireturn, 1) := dk_172 (dk_at dksX0_company_1 0 rfl rfl)
abbrev cX0_together : ByteArray := method_32_code
def yX0_together : MethodName := ⟨RX0, "together", "(LTwinInk;I[J)I"⟩
def dkwX0_together_0 : List UInt8 := [44, 3, 42, 27, 182, 0, 105, 133, 80, 167, 0, 6, 78, 4, 172, 3, 172]
abbrev dktX0_together_0 : List UInt8 := dkwX0_together_0 ++ []
theorem dksX0_together_0 : cX0_together.data.toList.drop 0 = dktX0_together_0 := by decide +kernel
theorem dX0_together_0 : decode cX0_together 0 = .ok (.aload_n 2, 1) := dk_44 (dk_at dksX0_together_0 0 rfl rfl)
theorem dX0_together_1 : decode cX0_together 1 = .ok (.iconst 0, 1) := dk_3 (dk_at dksX0_together_0 1 rfl rfl)
theorem dX0_together_2 : decode cX0_together 2 = .ok (.aload_n 0, 1) := dk_42 (dk_at dksX0_together_0 2 rfl rfl)
theorem dX0_together_3 : decode cX0_together 3 = .ok (.iload_n 1, 1) := dk_27 (dk_at dksX0_together_0 3 rfl rfl)
theorem dX0_together_4 : decode cX0_together 4 = .ok (.invokevirtual 105, 3) := dk_182 0 105 (dk_at dksX0_together_0 4 rfl rfl)
theorem dX0_together_7 : decode cX0_together 7 = .ok (.i2l, 1) := dk_133 (dk_at dksX0_together_0 7 rfl rfl)
theorem dX0_together_8 : decode cX0_together 8 = .ok (.lastore, 1) := dk_80 (dk_at dksX0_together_0 8 rfl rfl)
theorem dX0_together_9 : decode cX0_together 9 = .ok (.goto 6, 3) := dk_167 0 6 (dk_at dksX0_together_0 9 rfl rfl)
theorem dX0_together_12 : decode cX0_together 12 = .ok (.astore_n 3, 1) := dk_78 (dk_at dksX0_together_0 12 rfl rfl)
theorem dX0_together_13 : decode cX0_together 13 = .ok (.iconst 1, 1) := dk_4 (dk_at dksX0_together_0 13 rfl rfl)
theorem dX0_together_14 : decode cX0_together 14 = .ok (.ireturn, 1) := dk_172 (dk_at dksX0_together_0 14 rfl rfl)
theorem dX0_together_15 : decode cX0_together 15 = .ok (.iconst 0, 1) := dk_3 (dk_at dksX0_together_0 15 rfl rfl)
theorem dX0_together_16 : decode cX0_together 16 = .ok (.ireturn, 1) := dk_172 (dk_at dksX0_together_0 16 rfl rfl)
abbrev cX0_odd : ByteArray := method_33_code
def yX0_odd : MethodName := ⟨RX0, "odd", "(LTwinInk;I[J)I"⟩
def dkwX0_odd_0 : List UInt8 := [44, 3, 42, 27, 182, 0, 108, 133, 80, 167, 0, 6, 78, 4, 172, 3, 172]
abbrev dktX0_odd_0 : List UInt8 := dkwX0_odd_0 ++ []
theorem dksX0_odd_0 : cX0_odd.data.toList.drop 0 = dktX0_odd_0 := by decide +kernel
theorem dX0_odd_0 : decode cX0_odd 0 = .ok (.aload_n 2, 1) := dk_44 (dk_at dksX0_odd_0 0 rfl rfl)
theorem dX0_odd_1 : decode cX0_odd 1 = .ok (.iconst 0, 1) := dk_3 (dk_at dksX0_odd_0 1 rfl rfl)
theorem dX0_odd_2 : decode cX0_odd 2 = .ok (.aload_n 0, 1) := dk_42 (dk_at dksX0_odd_0 2 rfl rfl)
theorem dX0_odd_3 : decode cX0_odd 3 = .ok (.iload_n 1, 1) := dk_27 (dk_at dksX0_odd_0 3 rfl rfl)
theorem dX0_odd_4 : decode cX0_odd 4 = .ok (.invokevirtual 108, 3) := dk_182 0 108 (dk_at dksX0_odd_0 4 rfl rfl)
theorem dX0_odd_7 : decode cX0_odd 7 = .ok (.i2l, 1) := dk_133 (dk_at dksX0_odd_0 7 rfl rfl)
theorem dX0_odd_8 : decode cX0_odd 8 = .ok (.lastore, 1) := dk_80 (dk_at dksX0_odd_0 8 rfl rfl)
theorem dX0_odd_9 : decode cX0_odd 9 = .ok (.goto 6, 3) := dk_167 0 6 (dk_at dksX0_odd_0 9 rfl rfl)
theorem dX0_odd_12 : decode cX0_odd 12 = .ok (.astore_n 3, 1) := dk_78 (dk_at dksX0_odd_0 12 rfl rfl)
theorem dX0_odd_13 : decode cX0_odd 13 = .ok (.iconst 1, 1) := dk_4 (dk_at dksX0_odd_0 13 rfl rfl)
theorem dX0_odd_14 : decode cX0_odd 14 = .ok (.ireturn, 1) := dk_172 (dk_at dksX0_odd_0 14 rfl rfl)
theorem dX0_odd_15 : decode cX0_odd 15 = .ok (.iconst 0, 1) := dk_3 (dk_at dksX0_odd_0 15 rfl rfl)
theorem dX0_odd_16 : decode cX0_odd 16 = .ok (.ireturn, 1) := dk_172 (dk_at dksX0_odd_0 16 rfl rfl)
abbrev cX0_far : ByteArray := method_34_code
def yX0_far : MethodName := ⟨RX0, "far", "(LTwinInk;II[J)I"⟩
def dkwX0_far_0 : List UInt8 := [45, 3, 42, 27, 28, 182, 0, 111, 133, 80, 167, 0, 7, 58, 4, 4, 172, 3, 172]
abbrev dktX0_far_0 : List UInt8 := dkwX0_far_0 ++ []
theorem dksX0_far_0 : cX0_far.data.toList.drop 0 = dktX0_far_0 := by decide +kernel
theorem dX0_far_0 : decode cX0_far 0 = .ok (.aload_n 3, 1) := dk_45 (dk_at dksX0_far_0 0 rfl rfl)
theorem dX0_far_1 : decode cX0_far 1 = .ok (.iconst 0, 1) := dk_3 (dk_at dksX0_far_0 1 rfl rfl)
theorem dX0_far_2 : decode cX0_far 2 = .ok (.aload_n 0, 1) := dk_42 (dk_at dksX0_far_0 2 rfl rfl)
theorem dX0_far_3 : decode cX0_far 3 = .ok (.iload_n 1, 1) := dk_27 (dk_at dksX0_far_0 3 rfl rfl)
theorem dX0_far_4 : decode cX0_far 4 = .ok (.iload_n 2, 1) := dk_28 (dk_at dksX0_far_0 4 rfl rfl)
theorem dX0_far_5 : decode cX0_far 5 = .ok (.invokevirtual 111, 3) := dk_182 0 111 (dk_at dksX0_far_0 5 rfl rfl)
theorem dX0_far_8 : decode cX0_far 8 = .ok (.i2l, 1) := dk_133 (dk_at dksX0_far_0 8 rfl rfl)
theorem dX0_far_9 : decode cX0_far 9 = .ok (.lastore, 1) := dk_80 (dk_at dksX0_far_0 9 rfl rfl)
theorem dX0_far_10 : decode cX0_far 10 = .ok (.goto 7, 3) := dk_167 0 7 (dk_at dksX0_far_0 10 rfl rfl)
theorem dX0_far_13 : decode cX0_far 13 = .ok (.astore 4, 2) := dk_58 4 (dk_at dksX0_far_0 13 rfl rfl)
theorem dX0_far_15 : decode cX0_far 15 = .ok (.iconst 1, 1) := dk_4 (dk_at dksX0_far_0 15 rfl rfl)
theorem dX0_far_16 : decode cX0_far 16 = .ok (.ireturn, 1) := dk_172 (dk_at dksX0_far_0 16 rfl rfl)
theorem dX0_far_17 : decode cX0_far 17 = .ok (.iconst 0, 1) := dk_3 (dk_at dksX0_far_0 17 rfl rfl)
theorem dX0_far_18 : decode cX0_far 18 = .ok (.ireturn, 1) := dk_172 (dk_at dksX0_far_0 18 rfl rfl)
abbrev cX0_unread : ByteArray := method_35_code
def yX0_unread : MethodName := ⟨RX0, "unread", "(LTwinInk;I[J)I"⟩
def dkwX0_unread_0 : List UInt8 := [44, 3, 42, 27, 182, 0, 114, 133, 80, 167, 0, 6, 78, 4, 172, 3, 172]
abbrev dktX0_unread_0 : List UInt8 := dkwX0_unread_0 ++ []
theorem dksX0_unread_0 : cX0_unread.data.toList.drop 0 = dktX0_unread_0 := by decide +kernel
theorem dX0_unread_0 : decode cX0_unread 0 = .ok (.aload_n 2, 1) := dk_44 (dk_at dksX0_unread_0 0 rfl rfl)
theorem dX0_unread_1 : decode cX0_unread 1 = .ok (.iconst 0, 1) := dk_3 (dk_at dksX0_unread_0 1 rfl rfl)
theorem dX0_unread_2 : decode cX0_unread 2 = .ok (.aload_n 0, 1) := dk_42 (dk_at dksX0_unread_0 2 rfl rfl)
theorem dX0_unread_3 : decode cX0_unread 3 = .ok (.iload_n 1, 1) := dk_27 (dk_at dksX0_unread_0 3 rfl rfl)
theorem dX0_unread_4 : decode cX0_unread 4 = .ok (.invokevirtual 114, 3) := dk_182 0 114 (dk_at dksX0_unread_0 4 rfl rfl)
theorem dX0_unread_7 : decode cX0_unread 7 = .ok (.i2l, 1) := dk_133 (dk_at dksX0_unread_0 7 rfl rfl)
theorem dX0_unread_8 : decode cX0_unread 8 = .ok (.lastore, 1) := dk_80 (dk_at dksX0_unread_0 8 rfl rfl)
theorem dX0_unread_9 : decode cX0_unread 9 = .ok (.goto 6, 3) := dk_167 0 6 (dk_at dksX0_unread_0 9 rfl rfl)
theorem dX0_unread_12 : decode cX0_unread 12 = .ok (.astore_n 3, 1) := dk_78 (dk_at dksX0_unread_0 12 rfl rfl)
theorem dX0_unread_13 : decode cX0_unread 13 = .ok (.iconst 1, 1) := dk_4 (dk_at dksX0_unread_0 13 rfl rfl)
theorem dX0_unread_14 : decode cX0_unread 14 = .ok (.ireturn, 1) := dk_172 (dk_at dksX0_unread_0 14 rfl rfl)
theorem dX0_unread_15 : decode cX0_unread 15 = .ok (.iconst 0, 1) := dk_3 (dk_at dksX0_unread_0 15 rfl rfl)
theorem dX0_unread_16 : decode cX0_unread 16 = .ok (.ireturn, 1) := dk_172 (dk_at dksX0_unread_0 16 rfl rfl)
abbrev cX0_heir : ByteArray := method_36_code
def yX0_heir : MethodName := ⟨RX0, "heir", "(LTwinInk;I[J)I"⟩
def dkwX0_heir_0 : List UInt8 := [44, 3, 42, 27, 182, 0, 117, 133, 80, 167, 0, 6, 78, 4, 172, 3, 172]
abbrev dktX0_heir_0 : List UInt8 := dkwX0_heir_0 ++ []
theorem dksX0_heir_0 : cX0_heir.data.toList.drop 0 = dktX0_heir_0 := by decide +kernel
theorem dX0_heir_0 : decode cX0_heir 0 = .ok (.aload_n 2, 1) := dk_44 (dk_at dksX0_heir_0 0 rfl rfl)
theorem dX0_heir_1 : decode cX0_heir 1 = .ok (.iconst 0, 1) := dk_3 (dk_at dksX0_heir_0 1 rfl rfl)
theorem dX0_heir_2 : decode cX0_heir 2 = .ok (.aload_n 0, 1) := dk_42 (dk_at dksX0_heir_0 2 rfl rfl)
theorem dX0_heir_3 : decode cX0_heir 3 = .ok (.iload_n 1, 1) := dk_27 (dk_at dksX0_heir_0 3 rfl rfl)
theorem dX0_heir_4 : decode cX0_heir 4 = .ok (.invokevirtual 117, 3) := dk_182 0 117 (dk_at dksX0_heir_0 4 rfl rfl)
theorem dX0_heir_7 : decode cX0_heir 7 = .ok (.i2l, 1) := dk_133 (dk_at dksX0_heir_0 7 rfl rfl)
theorem dX0_heir_8 : decode cX0_heir 8 = .ok (.lastore, 1) := dk_80 (dk_at dksX0_heir_0 8 rfl rfl)
theorem dX0_heir_9 : decode cX0_heir 9 = .ok (.goto 6, 3) := dk_167 0 6 (dk_at dksX0_heir_0 9 rfl rfl)
theorem dX0_heir_12 : decode cX0_heir 12 = .ok (.astore_n 3, 1) := dk_78 (dk_at dksX0_heir_0 12 rfl rfl)
theorem dX0_heir_13 : decode cX0_heir 13 = .ok (.iconst 1, 1) := dk_4 (dk_at dksX0_heir_0 13 rfl rfl)
theorem dX0_heir_14 : decode cX0_heir 14 = .ok (.ireturn, 1) := dk_172 (dk_at dksX0_heir_0 14 rfl rfl)
theorem dX0_heir_15 : decode cX0_heir 15 = .ok (.iconst 0, 1) := dk_3 (dk_at dksX0_heir_0 15 rfl rfl)
theorem dX0_heir_16 : decode cX0_heir 16 = .ok (.ireturn, 1) := dk_172 (dk_at dksX0_heir_0 16 rfl rfl)
abbrev cX0_laid : ByteArray := method_37_code
def yX0_laid : MethodName := ⟨RX0, "laid", "(LTwinInk;I[J)I"⟩
def dkwX0_laid_0 : List UInt8 := [44, 3, 42, 27, 182, 0, 120, 133, 80, 167, 0, 6, 78, 4, 172, 3, 172]
abbrev dktX0_laid_0 : List UInt8 := dkwX0_laid_0 ++ []
theorem dksX0_laid_0 : cX0_laid.data.toList.drop 0 = dktX0_laid_0 := by decide +kernel
theorem dX0_laid_0 : decode cX0_laid 0 = .ok (.aload_n 2, 1) := dk_44 (dk_at dksX0_laid_0 0 rfl rfl)
theorem dX0_laid_1 : decode cX0_laid 1 = .ok (.iconst 0, 1) := dk_3 (dk_at dksX0_laid_0 1 rfl rfl)
theorem dX0_laid_2 : decode cX0_laid 2 = .ok (.aload_n 0, 1) := dk_42 (dk_at dksX0_laid_0 2 rfl rfl)
theorem dX0_laid_3 : decode cX0_laid 3 = .ok (.iload_n 1, 1) := dk_27 (dk_at dksX0_laid_0 3 rfl rfl)
theorem dX0_laid_4 : decode cX0_laid 4 = .ok (.invokevirtual 120, 3) := dk_182 0 120 (dk_at dksX0_laid_0 4 rfl rfl)
theorem dX0_laid_7 : decode cX0_laid 7 = .ok (.i2l, 1) := dk_133 (dk_at dksX0_laid_0 7 rfl rfl)
theorem dX0_laid_8 : decode cX0_laid 8 = .ok (.lastore, 1) := dk_80 (dk_at dksX0_laid_0 8 rfl rfl)
theorem dX0_laid_9 : decode cX0_laid 9 = .ok (.goto 6, 3) := dk_167 0 6 (dk_at dksX0_laid_0 9 rfl rfl)
theorem dX0_laid_12 : decode cX0_laid 12 = .ok (.astore_n 3, 1) := dk_78 (dk_at dksX0_laid_0 12 rfl rfl)
theorem dX0_laid_13 : decode cX0_laid 13 = .ok (.iconst 1, 1) := dk_4 (dk_at dksX0_laid_0 13 rfl rfl)
theorem dX0_laid_14 : decode cX0_laid 14 = .ok (.ireturn, 1) := dk_172 (dk_at dksX0_laid_0 14 rfl rfl)
theorem dX0_laid_15 : decode cX0_laid 15 = .ok (.iconst 0, 1) := dk_3 (dk_at dksX0_laid_0 15 rfl rfl)
theorem dX0_laid_16 : decode cX0_laid 16 = .ok (.ireturn, 1) := dk_172 (dk_at dksX0_laid_0 16 rfl rfl)
theorem q134 : (Jvm.Cond.initialized "TwinInkLaw") ∈ lw_all := lw_g (lw_at lw_m1 0 rfl) rfl
theorem q168 : (Jvm.Cond.classLink "TwinInkLaw" (8 : Nat) "TwinInk") ∈ lw_all := lw_g (lw_at lw_m1 34 rfl) rfl
theorem q170 : (Jvm.Cond.methodLink "TwinInkLaw" (123 : Nat) ({ cls := "TwinInk", name := "<init>", desc := "()V" } : Jvm.MethodName)) ∈ lw_all := lw_g (lw_at lw_m1 36 rfl) rfl
theorem q321 : (Jvm.Cond.methodLink "TwinInkLaw" (127 : Nat) ({ cls := "TwinInk", name := "feed", desc := "(IIIII)I" } : Jvm.MethodName)) ∈ lw_all := lw_g (lw_at lw_m1 187 rfl) rfl
theorem q325 : (Jvm.Cond.methodLink "TwinInkLaw" (142 : Nat) ({ cls := "TwinInk", name := "fault", desc := "()I" } : Jvm.MethodName)) ∈ lw_all := lw_g (lw_at lw_m1 191 rfl) rfl
theorem q329 : (Jvm.Cond.methodLink "TwinInkLaw" (162 : Nat) ({ cls := "TwinInk", name := "days", desc := "(I)I" } : Jvm.MethodName)) ∈ lw_all := lw_g (lw_at lw_m1 195 rfl) rfl
theorem q625 : (Jvm.Cond.methodLink "TwinInkLaw" (179 : Nat) ({ cls := "TwinInk", name := "undo", desc := "()I" } : Jvm.MethodName)) ∈ lw_all := lw_g (lw_at lw_m3 11 rfl) rfl
theorem q638 : (Jvm.Cond.methodLink "TwinInkLaw" (213 : Nat) ({ cls := "TwinInk", name := "toRead", desc := "()I" } : Jvm.MethodName)) ∈ lw_all := lw_g (lw_at lw_m3 24 rfl) rfl
theorem q646 : (Jvm.Cond.methodLink "TwinInkLaw" (224 : Nat) ({ cls := "TwinInk", name := "forget", desc := "()V" } : Jvm.MethodName)) ∈ lw_all := lw_g (lw_at lw_m3 32 rfl) rfl
theorem q650 : (Jvm.Cond.methodLink "TwinInkLaw" (267 : Nat) ({ cls := "TwinInk", name := "image", desc := "()V" } : Jvm.MethodName)) ∈ lw_all := lw_g (lw_at lw_m3 36 rfl) rfl
theorem q678 : (Jvm.Cond.methodLink "TwinInkLaw" (271 : Nat) ({ cls := "TwinInk", name := "restore", desc := "()Z" } : Jvm.MethodName)) ∈ lw_all := lw_g (lw_at lw_m3 64 rfl) rfl
theorem q682 : (Jvm.Cond.methodLink "TwinInkLaw" (132 : Nat) ({ cls := "TwinInkLaw", name := "office", desc := "(LTwinInk;I[J)I" } : Jvm.MethodName)) ∈ lw_all := lw_g (lw_at lw_m3 68 rfl) rfl
theorem q683 : (Jvm.Cond.static ({ cls := "TwinInkLaw", name := "office", desc := "(LTwinInk;I[J)I" } : Jvm.MethodName)) ∈ lw_all := lw_g (lw_at lw_m3 69 rfl) rfl
theorem q684 : (Jvm.Cond.codeWith ({ cls := "TwinInkLaw", name := "office", desc := "(LTwinInk;I[J)I" } : Jvm.MethodName) method_3_code (4 : Nat) (Option.some Jvm.ClassFile.FieldType.int) [((0 : Nat), (9 : Nat), (12 : Nat), (13 : Nat))]) ∈ lw_all := lw_g (lw_at lw_m3 70 rfl) rfl
theorem q685 : (Jvm.Cond.classLink "TwinInkLaw" (13 : Nat) "java/lang/IllegalArgumentException") ∈ lw_all := lw_g (lw_at lw_m3 71 rfl) rfl
theorem q686 : (Jvm.Cond.methodLink "TwinInkLaw" (7 : Nat) ({ cls := "TwinInk", name := "office", desc := "(I)I" } : Jvm.MethodName)) ∈ lw_all := lw_g (lw_at lw_m3 72 rfl) rfl
theorem q1223 : (Jvm.Cond.methodLink "TwinInkLaw" (146 : Nat) ({ cls := "TwinInkLaw", name := "count", desc := "(LTwinInk;I[J)I" } : Jvm.MethodName)) ∈ lw_all := lw_g (lw_at lw_m5 129 rfl) rfl
theorem q1224 : (Jvm.Cond.static ({ cls := "TwinInkLaw", name := "count", desc := "(LTwinInk;I[J)I" } : Jvm.MethodName)) ∈ lw_all := lw_g (lw_at lw_m5 130 rfl) rfl
theorem q1225 : (Jvm.Cond.codeWith ({ cls := "TwinInkLaw", name := "count", desc := "(LTwinInk;I[J)I" } : Jvm.MethodName) method_4_code (4 : Nat) (Option.some Jvm.ClassFile.FieldType.int) [((0 : Nat), (9 : Nat), (12 : Nat), (18 : Nat))]) ∈ lw_all := lw_g (lw_at lw_m5 131 rfl) rfl
theorem q1226 : (Jvm.Cond.classLink "TwinInkLaw" (18 : Nat) "java/util/NoSuchElementException") ∈ lw_all := lw_g (lw_at lw_m5 132 rfl) rfl
theorem q1227 : (Jvm.Cond.methodLink "TwinInkLaw" (15 : Nat) ({ cls := "TwinInk", name := "count", desc := "(I)I" } : Jvm.MethodName)) ∈ lw_all := lw_g (lw_at lw_m5 133 rfl) rfl
theorem q1272 : (Jvm.Cond.methodLink "TwinInkLaw" (149 : Nat) ({ cls := "TwinInkLaw", name := "sheet", desc := "(LTwinInk;II[J)I" } : Jvm.MethodName)) ∈ lw_all := lw_g (lw_at lw_m5 178 rfl) rfl
theorem q1273 : (Jvm.Cond.static ({ cls := "TwinInkLaw", name := "sheet", desc := "(LTwinInk;II[J)I" } : Jvm.MethodName)) ∈ lw_all := lw_g (lw_at lw_m5 179 rfl) rfl
theorem q1274 : (Jvm.Cond.codeWith ({ cls := "TwinInkLaw", name := "sheet", desc := "(LTwinInk;II[J)I" } : Jvm.MethodName) method_5_code (5 : Nat) (Option.some Jvm.ClassFile.FieldType.int) [((0 : Nat), (10 : Nat), (13 : Nat), (18 : Nat))]) ∈ lw_all := lw_g (lw_at lw_m5 180 rfl) rfl
theorem q1275 : (Jvm.Cond.methodLink "TwinInkLaw" (20 : Nat) ({ cls := "TwinInk", name := "sheet", desc := "(II)I" } : Jvm.MethodName)) ∈ lw_all := lw_g (lw_at lw_m5 181 rfl) rfl
theorem q1292 : (Jvm.Cond.methodLink "TwinInkLaw" (153 : Nat) ({ cls := "TwinInkLaw", name := "clerk", desc := "(LTwinInk;II[J)I" } : Jvm.MethodName)) ∈ lw_all := lw_g (lw_at lw_m5 198 rfl) rfl
theorem q1293 : (Jvm.Cond.static ({ cls := "TwinInkLaw", name := "clerk", desc := "(LTwinInk;II[J)I" } : Jvm.MethodName)) ∈ lw_all := lw_g (lw_at lw_m5 199 rfl) rfl
theorem q1294 : (Jvm.Cond.codeWith ({ cls := "TwinInkLaw", name := "clerk", desc := "(LTwinInk;II[J)I" } : Jvm.MethodName) method_6_code (5 : Nat) (Option.some Jvm.ClassFile.FieldType.int) [((0 : Nat), (10 : Nat), (13 : Nat), (18 : Nat))]) ∈ lw_all := lw_g (lw_at lw_m5 200 rfl) rfl
theorem q1295 : (Jvm.Cond.methodLink "TwinInkLaw" (24 : Nat) ({ cls := "TwinInk", name := "clerk", desc := "(II)I" } : Jvm.MethodName)) ∈ lw_all := lw_g (lw_at lw_m5 201 rfl) rfl
theorem q1309 : (Jvm.Cond.methodLink "TwinInkLaw" (156 : Nat) ({ cls := "TwinInkLaw", name := "word", desc := "(LTwinInk;II[J)I" } : Jvm.MethodName)) ∈ lw_all := lw_g (lw_at lw_m5 215 rfl) rfl
theorem q1310 : (Jvm.Cond.static ({ cls := "TwinInkLaw", name := "word", desc := "(LTwinInk;II[J)I" } : Jvm.MethodName)) ∈ lw_all := lw_g (lw_at lw_m5 216 rfl) rfl
theorem q1311 : (Jvm.Cond.codeWith ({ cls := "TwinInkLaw", name := "word", desc := "(LTwinInk;II[J)I" } : Jvm.MethodName) method_7_code (5 : Nat) (Option.some Jvm.ClassFile.FieldType.int) [((0 : Nat), (10 : Nat), (13 : Nat), (18 : Nat))]) ∈ lw_all := lw_g (lw_at lw_m5 217 rfl) rfl
theorem q1312 : (Jvm.Cond.methodLink "TwinInkLaw" (27 : Nat) ({ cls := "TwinInk", name := "word", desc := "(II)I" } : Jvm.MethodName)) ∈ lw_all := lw_g (lw_at lw_m5 218 rfl) rfl
theorem q1329 : (Jvm.Cond.methodLink "TwinInkLaw" (159 : Nat) ({ cls := "TwinInkLaw", name := "town", desc := "(LTwinInk;II[J)I" } : Jvm.MethodName)) ∈ lw_all := lw_g (lw_at lw_m5 235 rfl) rfl
theorem q1330 : (Jvm.Cond.static ({ cls := "TwinInkLaw", name := "town", desc := "(LTwinInk;II[J)I" } : Jvm.MethodName)) ∈ lw_all := lw_g (lw_at lw_m5 236 rfl) rfl
theorem q1331 : (Jvm.Cond.codeWith ({ cls := "TwinInkLaw", name := "town", desc := "(LTwinInk;II[J)I" } : Jvm.MethodName) method_8_code (5 : Nat) (Option.some Jvm.ClassFile.FieldType.int) [((0 : Nat), (10 : Nat), (13 : Nat), (18 : Nat))]) ∈ lw_all := lw_g (lw_at lw_m5 237 rfl) rfl
theorem q1332 : (Jvm.Cond.methodLink "TwinInkLaw" (30 : Nat) ({ cls := "TwinInk", name := "town", desc := "(II)I" } : Jvm.MethodName)) ∈ lw_all := lw_g (lw_at lw_m5 238 rfl) rfl
theorem q1357 : (Jvm.Cond.methodLink "TwinInkLaw" (166 : Nat) ({ cls := "TwinInkLaw", name := "take", desc := "(LTwinInk;II[J)I" } : Jvm.MethodName)) ∈ lw_all := lw_g (lw_at lw_m6 23 rfl) rfl
theorem q1358 : (Jvm.Cond.static ({ cls := "TwinInkLaw", name := "take", desc := "(LTwinInk;II[J)I" } : Jvm.MethodName)) ∈ lw_all := lw_g (lw_at lw_m6 24 rfl) rfl
theorem q1359 : (Jvm.Cond.codeWith ({ cls := "TwinInkLaw", name := "take", desc := "(LTwinInk;II[J)I" } : Jvm.MethodName) method_9_code (5 : Nat) (Option.some Jvm.ClassFile.FieldType.int) [((0 : Nat), (17 : Nat), (20 : Nat), (18 : Nat))]) ∈ lw_all := lw_g (lw_at lw_m6 25 rfl) rfl
theorem q1360 : (Jvm.Cond.methodLink "TwinInkLaw" (33 : Nat) ({ cls := "TwinInk", name := "take", desc := "(II)Z" } : Jvm.MethodName)) ∈ lw_all := lw_g (lw_at lw_m6 26 rfl) rfl
theorem q1368 : (Jvm.Cond.methodLink "TwinInkLaw" (169 : Nat) ({ cls := "TwinInkLaw", name := "leave", desc := "(LTwinInk;II[J)I" } : Jvm.MethodName)) ∈ lw_all := lw_g (lw_at lw_m6 34 rfl) rfl
theorem q1369 : (Jvm.Cond.static ({ cls := "TwinInkLaw", name := "leave", desc := "(LTwinInk;II[J)I" } : Jvm.MethodName)) ∈ lw_all := lw_g (lw_at lw_m6 35 rfl) rfl
theorem q1370 : (Jvm.Cond.codeWith ({ cls := "TwinInkLaw", name := "leave", desc := "(LTwinInk;II[J)I" } : Jvm.MethodName) method_10_code (5 : Nat) (Option.some Jvm.ClassFile.FieldType.int) [((0 : Nat), (10 : Nat), (13 : Nat), (18 : Nat))]) ∈ lw_all := lw_g (lw_at lw_m6 36 rfl) rfl
theorem q1371 : (Jvm.Cond.methodLink "TwinInkLaw" (37 : Nat) ({ cls := "TwinInk", name := "leave", desc := "(II)I" } : Jvm.MethodName)) ∈ lw_all := lw_g (lw_at lw_m6 37 rfl) rfl
theorem q1375 : (Jvm.Cond.methodLink "TwinInkLaw" (172 : Nat) ({ cls := "TwinInkLaw", name := "forge", desc := "(LTwinInk;III[J)I" } : Jvm.MethodName)) ∈ lw_all := lw_g (lw_at lw_m6 41 rfl) rfl
theorem q1376 : (Jvm.Cond.static ({ cls := "TwinInkLaw", name := "forge", desc := "(LTwinInk;III[J)I" } : Jvm.MethodName)) ∈ lw_all := lw_g (lw_at lw_m6 42 rfl) rfl
theorem q1377 : (Jvm.Cond.codeWith ({ cls := "TwinInkLaw", name := "forge", desc := "(LTwinInk;III[J)I" } : Jvm.MethodName) method_11_code (6 : Nat) (Option.some Jvm.ClassFile.FieldType.int) [((0 : Nat), (12 : Nat), (15 : Nat), (18 : Nat))]) ∈ lw_all := lw_g (lw_at lw_m6 43 rfl) rfl
theorem q1378 : (Jvm.Cond.methodLink "TwinInkLaw" (40 : Nat) ({ cls := "TwinInk", name := "forge", desc := "(III)I" } : Jvm.MethodName)) ∈ lw_all := lw_g (lw_at lw_m6 44 rfl) rfl
theorem q1383 : (Jvm.Cond.methodLink "TwinInkLaw" (176 : Nat) ({ cls := "TwinInkLaw", name := "fire", desc := "(LTwinInk;I[J)I" } : Jvm.MethodName)) ∈ lw_all := lw_g (lw_at lw_m6 49 rfl) rfl
theorem q1384 : (Jvm.Cond.static ({ cls := "TwinInkLaw", name := "fire", desc := "(LTwinInk;I[J)I" } : Jvm.MethodName)) ∈ lw_all := lw_g (lw_at lw_m6 50 rfl) rfl
theorem q1385 : (Jvm.Cond.codeWith ({ cls := "TwinInkLaw", name := "fire", desc := "(LTwinInk;I[J)I" } : Jvm.MethodName) method_12_code (4 : Nat) (Option.some Jvm.ClassFile.FieldType.int) [((0 : Nat), (9 : Nat), (12 : Nat), (18 : Nat))]) ∈ lw_all := lw_g (lw_at lw_m6 51 rfl) rfl
theorem q1386 : (Jvm.Cond.methodLink "TwinInkLaw" (44 : Nat) ({ cls := "TwinInk", name := "fire", desc := "(I)I" } : Jvm.MethodName)) ∈ lw_all := lw_g (lw_at lw_m6 52 rfl) rfl
theorem q1395 : (Jvm.Cond.methodLink "TwinInkLaw" (183 : Nat) ({ cls := "TwinInkLaw", name := "then", desc := "(LTwinInk;III[J)I" } : Jvm.MethodName)) ∈ lw_all := lw_g (lw_at lw_m6 61 rfl) rfl
theorem q1396 : (Jvm.Cond.static ({ cls := "TwinInkLaw", name := "then", desc := "(LTwinInk;III[J)I" } : Jvm.MethodName)) ∈ lw_all := lw_g (lw_at lw_m6 62 rfl) rfl
theorem q1397 : (Jvm.Cond.codeWith ({ cls := "TwinInkLaw", name := "then", desc := "(LTwinInk;III[J)I" } : Jvm.MethodName) method_13_code (6 : Nat) (Option.some Jvm.ClassFile.FieldType.int) [((0 : Nat), (12 : Nat), (15 : Nat), (18 : Nat)), ((0 : Nat), (12 : Nat), (19 : Nat), (13 : Nat))]) ∈ lw_all := lw_g (lw_at lw_m6 63 rfl) rfl
theorem q1398 : (Jvm.Cond.methodLink "TwinInkLaw" (47 : Nat) ({ cls := "TwinInk", name := "then", desc := "(III)I" } : Jvm.MethodName)) ∈ lw_all := lw_g (lw_at lw_m6 64 rfl) rfl
theorem q1407 : (Jvm.Cond.methodLink "TwinInkLaw" (186 : Nat) ({ cls := "TwinInkLaw", name := "where", desc := "(LTwinInk;II[J)I" } : Jvm.MethodName)) ∈ lw_all := lw_g (lw_at lw_m6 73 rfl) rfl
theorem q1408 : (Jvm.Cond.static ({ cls := "TwinInkLaw", name := "where", desc := "(LTwinInk;II[J)I" } : Jvm.MethodName)) ∈ lw_all := lw_g (lw_at lw_m6 74 rfl) rfl
theorem q1409 : (Jvm.Cond.codeWith ({ cls := "TwinInkLaw", name := "where", desc := "(LTwinInk;II[J)I" } : Jvm.MethodName) method_14_code (5 : Nat) (Option.some Jvm.ClassFile.FieldType.int) [((0 : Nat), (10 : Nat), (13 : Nat), (18 : Nat)), ((0 : Nat), (10 : Nat), (17 : Nat), (13 : Nat))]) ∈ lw_all := lw_g (lw_at lw_m6 75 rfl) rfl
theorem q1410 : (Jvm.Cond.methodLink "TwinInkLaw" (50 : Nat) ({ cls := "TwinInk", name := "where", desc := "(II)I" } : Jvm.MethodName)) ∈ lw_all := lw_g (lw_at lw_m6 76 rfl) rfl
theorem q1414 : (Jvm.Cond.methodLink "TwinInkLaw" (189 : Nat) ({ cls := "TwinInkLaw", name := "first", desc := "(LTwinInk;II[J)I" } : Jvm.MethodName)) ∈ lw_all := lw_g (lw_at lw_m6 80 rfl) rfl
theorem q1415 : (Jvm.Cond.static ({ cls := "TwinInkLaw", name := "first", desc := "(LTwinInk;II[J)I" } : Jvm.MethodName)) ∈ lw_all := lw_g (lw_at lw_m6 81 rfl) rfl
theorem q1416 : (Jvm.Cond.codeWith ({ cls := "TwinInkLaw", name := "first", desc := "(LTwinInk;II[J)I" } : Jvm.MethodName) method_15_code (5 : Nat) (Option.some Jvm.ClassFile.FieldType.int) [((0 : Nat), (10 : Nat), (13 : Nat), (18 : Nat))]) ∈ lw_all := lw_g (lw_at lw_m6 82 rfl) rfl
theorem q1417 : (Jvm.Cond.methodLink "TwinInkLaw" (53 : Nat) ({ cls := "TwinInk", name := "first", desc := "(II)I" } : Jvm.MethodName)) ∈ lw_all := lw_g (lw_at lw_m6 83 rfl) rfl
theorem q1430 : (Jvm.Cond.methodLink "TwinInkLaw" (192 : Nat) ({ cls := "TwinInkLaw", name := "read", desc := "(LTwinInk;II[J)I" } : Jvm.MethodName)) ∈ lw_all := lw_g (lw_at lw_m6 96 rfl) rfl
theorem q1431 : (Jvm.Cond.static ({ cls := "TwinInkLaw", name := "read", desc := "(LTwinInk;II[J)I" } : Jvm.MethodName)) ∈ lw_all := lw_g (lw_at lw_m6 97 rfl) rfl
theorem q1432 : (Jvm.Cond.codeWith ({ cls := "TwinInkLaw", name := "read", desc := "(LTwinInk;II[J)I" } : Jvm.MethodName) method_16_code (5 : Nat) (Option.some Jvm.ClassFile.FieldType.int) [((0 : Nat), (10 : Nat), (13 : Nat), (18 : Nat)), ((0 : Nat), (10 : Nat), (17 : Nat), (13 : Nat))]) ∈ lw_all := lw_g (lw_at lw_m6 98 rfl) rfl
theorem q1433 : (Jvm.Cond.methodLink "TwinInkLaw" (56 : Nat) ({ cls := "TwinInk", name := "read", desc := "(II)I" } : Jvm.MethodName)) ∈ lw_all := lw_g (lw_at lw_m6 99 rfl) rfl
theorem q1437 : (Jvm.Cond.methodLink "TwinInkLaw" (195 : Nat) ({ cls := "TwinInkLaw", name := "mould", desc := "(LTwinInk;I[J)I" } : Jvm.MethodName)) ∈ lw_all := lw_g (lw_at lw_m6 103 rfl) rfl
theorem q1438 : (Jvm.Cond.static ({ cls := "TwinInkLaw", name := "mould", desc := "(LTwinInk;I[J)I" } : Jvm.MethodName)) ∈ lw_all := lw_g (lw_at lw_m6 104 rfl) rfl
theorem q1439 : (Jvm.Cond.codeWith ({ cls := "TwinInkLaw", name := "mould", desc := "(LTwinInk;I[J)I" } : Jvm.MethodName) method_17_code (4 : Nat) (Option.some Jvm.ClassFile.FieldType.int) [((0 : Nat), (9 : Nat), (12 : Nat), (18 : Nat))]) ∈ lw_all := lw_g (lw_at lw_m6 105 rfl) rfl
theorem q1440 : (Jvm.Cond.methodLink "TwinInkLaw" (59 : Nat) ({ cls := "TwinInk", name := "mould", desc := "(I)I" } : Jvm.MethodName)) ∈ lw_all := lw_g (lw_at lw_m6 106 rfl) rfl
theorem q1444 : (Jvm.Cond.methodLink "TwinInkLaw" (198 : Nat) ({ cls := "TwinInkLaw", name := "meet", desc := "(LTwinInk;II[J)I" } : Jvm.MethodName)) ∈ lw_all := lw_g (lw_at lw_m6 110 rfl) rfl
theorem q1445 : (Jvm.Cond.static ({ cls := "TwinInkLaw", name := "meet", desc := "(LTwinInk;II[J)I" } : Jvm.MethodName)) ∈ lw_all := lw_g (lw_at lw_m6 111 rfl) rfl
theorem q1446 : (Jvm.Cond.codeWith ({ cls := "TwinInkLaw", name := "meet", desc := "(LTwinInk;II[J)I" } : Jvm.MethodName) method_18_code (5 : Nat) (Option.some Jvm.ClassFile.FieldType.int) [((0 : Nat), (10 : Nat), (13 : Nat), (18 : Nat))]) ∈ lw_all := lw_g (lw_at lw_m6 112 rfl) rfl
theorem q1447 : (Jvm.Cond.methodLink "TwinInkLaw" (62 : Nat) ({ cls := "TwinInk", name := "meet", desc := "(II)I" } : Jvm.MethodName)) ∈ lw_all := lw_g (lw_at lw_m6 113 rfl) rfl
theorem q1451 : (Jvm.Cond.methodLink "TwinInkLaw" (201 : Nat) ({ cls := "TwinInkLaw", name := "gathering", desc := "(LTwinInk;I[J)I" } : Jvm.MethodName)) ∈ lw_all := lw_g (lw_at lw_m6 117 rfl) rfl
theorem q1452 : (Jvm.Cond.static ({ cls := "TwinInkLaw", name := "gathering", desc := "(LTwinInk;I[J)I" } : Jvm.MethodName)) ∈ lw_all := lw_g (lw_at lw_m6 118 rfl) rfl
theorem q1453 : (Jvm.Cond.codeWith ({ cls := "TwinInkLaw", name := "gathering", desc := "(LTwinInk;I[J)I" } : Jvm.MethodName) method_19_code (4 : Nat) (Option.some Jvm.ClassFile.FieldType.int) [((0 : Nat), (9 : Nat), (12 : Nat), (13 : Nat))]) ∈ lw_all := lw_g (lw_at lw_m6 119 rfl) rfl
theorem q1454 : (Jvm.Cond.methodLink "TwinInkLaw" (65 : Nat) ({ cls := "TwinInk", name := "gathering", desc := "(I)I" } : Jvm.MethodName)) ∈ lw_all := lw_g (lw_at lw_m6 120 rfl) rfl
theorem q1459 : (Jvm.Cond.methodLink "TwinInkLaw" (204 : Nat) ({ cls := "TwinInkLaw", name := "row", desc := "(LTwinInk;I[J)I" } : Jvm.MethodName)) ∈ lw_all := lw_g (lw_at lw_m6 125 rfl) rfl
theorem q1460 : (Jvm.Cond.static ({ cls := "TwinInkLaw", name := "row", desc := "(LTwinInk;I[J)I" } : Jvm.MethodName)) ∈ lw_all := lw_g (lw_at lw_m6 126 rfl) rfl
theorem q1461 : (Jvm.Cond.codeWith ({ cls := "TwinInkLaw", name := "row", desc := "(LTwinInk;I[J)I" } : Jvm.MethodName) method_20_code (4 : Nat) (Option.some Jvm.ClassFile.FieldType.int) [((0 : Nat), (9 : Nat), (12 : Nat), (18 : Nat))]) ∈ lw_all := lw_g (lw_at lw_m6 127 rfl) rfl
theorem q1462 : (Jvm.Cond.methodLink "TwinInkLaw" (68 : Nat) ({ cls := "TwinInk", name := "row", desc := "(I)I" } : Jvm.MethodName)) ∈ lw_all := lw_g (lw_at lw_m6 128 rfl) rfl
theorem q1472 : (Jvm.Cond.methodLink "TwinInkLaw" (207 : Nat) ({ cls := "TwinInkLaw", name := "toForge", desc := "(LTwinInk;II[J)I" } : Jvm.MethodName)) ∈ lw_all := lw_g (lw_at lw_m6 138 rfl) rfl
theorem q1473 : (Jvm.Cond.static ({ cls := "TwinInkLaw", name := "toForge", desc := "(LTwinInk;II[J)I" } : Jvm.MethodName)) ∈ lw_all := lw_g (lw_at lw_m6 139 rfl) rfl
theorem q1474 : (Jvm.Cond.codeWith ({ cls := "TwinInkLaw", name := "toForge", desc := "(LTwinInk;II[J)I" } : Jvm.MethodName) method_21_code (5 : Nat) (Option.some Jvm.ClassFile.FieldType.int) [((0 : Nat), (10 : Nat), (13 : Nat), (18 : Nat))]) ∈ lw_all := lw_g (lw_at lw_m6 140 rfl) rfl
theorem q1475 : (Jvm.Cond.methodLink "TwinInkLaw" (71 : Nat) ({ cls := "TwinInk", name := "toForge", desc := "(II)I" } : Jvm.MethodName)) ∈ lw_all := lw_g (lw_at lw_m6 141 rfl) rfl
theorem q1480 : (Jvm.Cond.methodLink "TwinInkLaw" (210 : Nat) ({ cls := "TwinInkLaw", name := "toSave", desc := "(LTwinInk;I[J)I" } : Jvm.MethodName)) ∈ lw_all := lw_g (lw_at lw_m6 146 rfl) rfl
theorem q1481 : (Jvm.Cond.static ({ cls := "TwinInkLaw", name := "toSave", desc := "(LTwinInk;I[J)I" } : Jvm.MethodName)) ∈ lw_all := lw_g (lw_at lw_m6 147 rfl) rfl
theorem q1482 : (Jvm.Cond.codeWith ({ cls := "TwinInkLaw", name := "toSave", desc := "(LTwinInk;I[J)I" } : Jvm.MethodName) method_22_code (4 : Nat) (Option.some Jvm.ClassFile.FieldType.int) [((0 : Nat), (9 : Nat), (12 : Nat), (18 : Nat))]) ∈ lw_all := lw_g (lw_at lw_m6 148 rfl) rfl
theorem q1483 : (Jvm.Cond.methodLink "TwinInkLaw" (74 : Nat) ({ cls := "TwinInk", name := "toSave", desc := "(I)I" } : Jvm.MethodName)) ∈ lw_all := lw_g (lw_at lw_m6 149 rfl) rfl
theorem q1487 : (Jvm.Cond.methodLink "TwinInkLaw" (217 : Nat) ({ cls := "TwinInkLaw", name := "chain", desc := "(LTwinInk;II[J)I" } : Jvm.MethodName)) ∈ lw_all := lw_g (lw_at lw_m6 153 rfl) rfl
theorem q1488 : (Jvm.Cond.static ({ cls := "TwinInkLaw", name := "chain", desc := "(LTwinInk;II[J)I" } : Jvm.MethodName)) ∈ lw_all := lw_g (lw_at lw_m6 154 rfl) rfl
theorem q1489 : (Jvm.Cond.codeWith ({ cls := "TwinInkLaw", name := "chain", desc := "(LTwinInk;II[J)I" } : Jvm.MethodName) method_23_code (5 : Nat) (Option.some Jvm.ClassFile.FieldType.int) [((0 : Nat), (10 : Nat), (13 : Nat), (18 : Nat))]) ∈ lw_all := lw_g (lw_at lw_m6 155 rfl) rfl
theorem q1490 : (Jvm.Cond.methodLink "TwinInkLaw" (77 : Nat) ({ cls := "TwinInk", name := "chain", desc := "(II)I" } : Jvm.MethodName)) ∈ lw_all := lw_g (lw_at lw_m6 156 rfl) rfl
theorem q1494 : (Jvm.Cond.methodLink "TwinInkLaw" (220 : Nat) ({ cls := "TwinInkLaw", name := "hear", desc := "(LTwinInk;IIIZ[J)I" } : Jvm.MethodName)) ∈ lw_all := lw_g (lw_at lw_m6 160 rfl) rfl
theorem q1495 : (Jvm.Cond.static ({ cls := "TwinInkLaw", name := "hear", desc := "(LTwinInk;IIIZ[J)I" } : Jvm.MethodName)) ∈ lw_all := lw_g (lw_at lw_m6 161 rfl) rfl
theorem q1496 : (Jvm.Cond.codeWith ({ cls := "TwinInkLaw", name := "hear", desc := "(LTwinInk;IIIZ[J)I" } : Jvm.MethodName) method_24_code (7 : Nat) (Option.some Jvm.ClassFile.FieldType.int) [((0 : Nat), (14 : Nat), (17 : Nat), (18 : Nat))]) ∈ lw_all := lw_g (lw_at lw_m6 162 rfl) rfl
theorem q1497 : (Jvm.Cond.methodLink "TwinInkLaw" (80 : Nat) ({ cls := "TwinInk", name := "hear", desc := "(IIIZ)I" } : Jvm.MethodName)) ∈ lw_all := lw_g (lw_at lw_m6 163 rfl) rfl
theorem q1501 : (Jvm.Cond.methodLink "TwinInkLaw" (228 : Nat) ({ cls := "TwinInkLaw", name := "borne", desc := "(LTwinInk;I[J)I" } : Jvm.MethodName)) ∈ lw_all := lw_g (lw_at lw_m6 167 rfl) rfl
theorem q1502 : (Jvm.Cond.static ({ cls := "TwinInkLaw", name := "borne", desc := "(LTwinInk;I[J)I" } : Jvm.MethodName)) ∈ lw_all := lw_g (lw_at lw_m6 168 rfl) rfl
theorem q1503 : (Jvm.Cond.codeWith ({ cls := "TwinInkLaw", name := "borne", desc := "(LTwinInk;I[J)I" } : Jvm.MethodName) method_25_code (4 : Nat) (Option.some Jvm.ClassFile.FieldType.int) [((0 : Nat), (9 : Nat), (12 : Nat), (18 : Nat))]) ∈ lw_all := lw_g (lw_at lw_m6 169 rfl) rfl
theorem q1504 : (Jvm.Cond.methodLink "TwinInkLaw" (84 : Nat) ({ cls := "TwinInk", name := "borne", desc := "(I)I" } : Jvm.MethodName)) ∈ lw_all := lw_g (lw_at lw_m6 170 rfl) rfl
theorem q1519 : (Jvm.Cond.methodLink "TwinInkLaw" (231 : Nat) ({ cls := "TwinInkLaw", name := "ask", desc := "(LTwinInk;I[J)I" } : Jvm.MethodName)) ∈ lw_all := lw_g (lw_at lw_m6 185 rfl) rfl
theorem q1520 : (Jvm.Cond.static ({ cls := "TwinInkLaw", name := "ask", desc := "(LTwinInk;I[J)I" } : Jvm.MethodName)) ∈ lw_all := lw_g (lw_at lw_m6 186 rfl) rfl
theorem q1521 : (Jvm.Cond.codeWith ({ cls := "TwinInkLaw", name := "ask", desc := "(LTwinInk;I[J)I" } : Jvm.MethodName) method_26_code (4 : Nat) (Option.some Jvm.ClassFile.FieldType.int) [((0 : Nat), (9 : Nat), (12 : Nat), (18 : Nat))]) ∈ lw_all := lw_g (lw_at lw_m6 187 rfl) rfl
theorem q1522 : (Jvm.Cond.methodLink "TwinInkLaw" (87 : Nat) ({ cls := "TwinInk", name := "ask", desc := "(I)I" } : Jvm.MethodName)) ∈ lw_all := lw_g (lw_at lw_m6 188 rfl) rfl
theorem q1526 : (Jvm.Cond.methodLink "TwinInkLaw" (234 : Nat) ({ cls := "TwinInkLaw", name := "fires", desc := "(LTwinInk;II[J)I" } : Jvm.MethodName)) ∈ lw_all := lw_g (lw_at lw_m6 192 rfl) rfl
theorem q1527 : (Jvm.Cond.static ({ cls := "TwinInkLaw", name := "fires", desc := "(LTwinInk;II[J)I" } : Jvm.MethodName)) ∈ lw_all := lw_g (lw_at lw_m6 193 rfl) rfl
theorem q1528 : (Jvm.Cond.codeWith ({ cls := "TwinInkLaw", name := "fires", desc := "(LTwinInk;II[J)I" } : Jvm.MethodName) method_27_code (5 : Nat) (Option.some Jvm.ClassFile.FieldType.int) [((0 : Nat), (10 : Nat), (13 : Nat), (18 : Nat)), ((0 : Nat), (10 : Nat), (17 : Nat), (13 : Nat))]) ∈ lw_all := lw_g (lw_at lw_m6 194 rfl) rfl
theorem q1529 : (Jvm.Cond.methodLink "TwinInkLaw" (90 : Nat) ({ cls := "TwinInk", name := "fires", desc := "(II)I" } : Jvm.MethodName)) ∈ lw_all := lw_g (lw_at lw_m6 195 rfl) rfl
theorem q1533 : (Jvm.Cond.methodLink "TwinInkLaw" (237 : Nat) ({ cls := "TwinInkLaw", name := "game", desc := "(LTwinInk;III[J)I" } : Jvm.MethodName)) ∈ lw_all := lw_g (lw_at lw_m6 199 rfl) rfl
theorem q1534 : (Jvm.Cond.static ({ cls := "TwinInkLaw", name := "game", desc := "(LTwinInk;III[J)I" } : Jvm.MethodName)) ∈ lw_all := lw_g (lw_at lw_m6 200 rfl) rfl
theorem q1535 : (Jvm.Cond.codeWith ({ cls := "TwinInkLaw", name := "game", desc := "(LTwinInk;III[J)I" } : Jvm.MethodName) method_28_code (6 : Nat) (Option.some Jvm.ClassFile.FieldType.int) [((0 : Nat), (12 : Nat), (15 : Nat), (18 : Nat)), ((0 : Nat), (12 : Nat), (19 : Nat), (13 : Nat))]) ∈ lw_all := lw_g (lw_at lw_m6 201 rfl) rfl
theorem q1536 : (Jvm.Cond.methodLink "TwinInkLaw" (93 : Nat) ({ cls := "TwinInk", name := "game", desc := "(III)I" } : Jvm.MethodName)) ∈ lw_all := lw_g (lw_at lw_m6 202 rfl) rfl
theorem q1549 : (Jvm.Cond.methodLink "TwinInkLaw" (240 : Nat) ({ cls := "TwinInkLaw", name := "years", desc := "(LTwinInk;III[J)I" } : Jvm.MethodName)) ∈ lw_all := lw_g (lw_at lw_m6 215 rfl) rfl
theorem q1550 : (Jvm.Cond.static ({ cls := "TwinInkLaw", name := "years", desc := "(LTwinInk;III[J)I" } : Jvm.MethodName)) ∈ lw_all := lw_g (lw_at lw_m6 216 rfl) rfl
theorem q1551 : (Jvm.Cond.codeWith ({ cls := "TwinInkLaw", name := "years", desc := "(LTwinInk;III[J)I" } : Jvm.MethodName) method_29_code (6 : Nat) (Option.some Jvm.ClassFile.FieldType.int) [((0 : Nat), (12 : Nat), (15 : Nat), (18 : Nat)), ((0 : Nat), (12 : Nat), (19 : Nat), (13 : Nat))]) ∈ lw_all := lw_g (lw_at lw_m6 217 rfl) rfl
theorem q1552 : (Jvm.Cond.methodLink "TwinInkLaw" (96 : Nat) ({ cls := "TwinInk", name := "years", desc := "(III)I" } : Jvm.MethodName)) ∈ lw_all := lw_g (lw_at lw_m6 218 rfl) rfl
theorem q1565 : (Jvm.Cond.methodLink "TwinInkLaw" (243 : Nat) ({ cls := "TwinInkLaw", name := "wisest", desc := "(LTwinInk;I[J)I" } : Jvm.MethodName)) ∈ lw_all := lw_g (lw_at lw_m6 231 rfl) rfl
theorem q1566 : (Jvm.Cond.static ({ cls := "TwinInkLaw", name := "wisest", desc := "(LTwinInk;I[J)I" } : Jvm.MethodName)) ∈ lw_all := lw_g (lw_at lw_m6 232 rfl) rfl
theorem q1567 : (Jvm.Cond.codeWith ({ cls := "TwinInkLaw", name := "wisest", desc := "(LTwinInk;I[J)I" } : Jvm.MethodName) method_30_code (4 : Nat) (Option.some Jvm.ClassFile.FieldType.int) [((0 : Nat), (9 : Nat), (12 : Nat), (13 : Nat))]) ∈ lw_all := lw_g (lw_at lw_m6 233 rfl) rfl
theorem q1568 : (Jvm.Cond.methodLink "TwinInkLaw" (99 : Nat) ({ cls := "TwinInk", name := "wisest", desc := "(I)I" } : Jvm.MethodName)) ∈ lw_all := lw_g (lw_at lw_m6 234 rfl) rfl
theorem q1572 : (Jvm.Cond.methodLink "TwinInkLaw" (246 : Nat) ({ cls := "TwinInkLaw", name := "company", desc := "(LTwinInk;III[J)I" } : Jvm.MethodName)) ∈ lw_all := lw_g (lw_at lw_m6 238 rfl) rfl
theorem q1573 : (Jvm.Cond.static ({ cls := "TwinInkLaw", name := "company", desc := "(LTwinInk;III[J)I" } : Jvm.MethodName)) ∈ lw_all := lw_g (lw_at lw_m6 239 rfl) rfl
theorem q1574 : (Jvm.Cond.codeWith ({ cls := "TwinInkLaw", name := "company", desc := "(LTwinInk;III[J)I" } : Jvm.MethodName) method_31_code (6 : Nat) (Option.some Jvm.ClassFile.FieldType.int) [((0 : Nat), (12 : Nat), (15 : Nat), (18 : Nat)), ((0 : Nat), (12 : Nat), (19 : Nat), (13 : Nat))]) ∈ lw_all := lw_g (lw_at lw_m7 0 rfl) rfl
theorem q1575 : (Jvm.Cond.methodLink "TwinInkLaw" (102 : Nat) ({ cls := "TwinInk", name := "company", desc := "(III)I" } : Jvm.MethodName)) ∈ lw_all := lw_g (lw_at lw_m7 1 rfl) rfl
theorem q1580 : (Jvm.Cond.methodLink "TwinInkLaw" (249 : Nat) ({ cls := "TwinInkLaw", name := "together", desc := "(LTwinInk;I[J)I" } : Jvm.MethodName)) ∈ lw_all := lw_g (lw_at lw_m7 6 rfl) rfl
theorem q1581 : (Jvm.Cond.static ({ cls := "TwinInkLaw", name := "together", desc := "(LTwinInk;I[J)I" } : Jvm.MethodName)) ∈ lw_all := lw_g (lw_at lw_m7 7 rfl) rfl
theorem q1582 : (Jvm.Cond.codeWith ({ cls := "TwinInkLaw", name := "together", desc := "(LTwinInk;I[J)I" } : Jvm.MethodName) method_32_code (4 : Nat) (Option.some Jvm.ClassFile.FieldType.int) [((0 : Nat), (9 : Nat), (12 : Nat), (13 : Nat))]) ∈ lw_all := lw_g (lw_at lw_m7 8 rfl) rfl
theorem q1583 : (Jvm.Cond.methodLink "TwinInkLaw" (105 : Nat) ({ cls := "TwinInk", name := "together", desc := "(I)I" } : Jvm.MethodName)) ∈ lw_all := lw_g (lw_at lw_m7 9 rfl) rfl
theorem q1587 : (Jvm.Cond.methodLink "TwinInkLaw" (252 : Nat) ({ cls := "TwinInkLaw", name := "odd", desc := "(LTwinInk;I[J)I" } : Jvm.MethodName)) ∈ lw_all := lw_g (lw_at lw_m7 13 rfl) rfl
theorem q1588 : (Jvm.Cond.static ({ cls := "TwinInkLaw", name := "odd", desc := "(LTwinInk;I[J)I" } : Jvm.MethodName)) ∈ lw_all := lw_g (lw_at lw_m7 14 rfl) rfl
theorem q1589 : (Jvm.Cond.codeWith ({ cls := "TwinInkLaw", name := "odd", desc := "(LTwinInk;I[J)I" } : Jvm.MethodName) method_33_code (4 : Nat) (Option.some Jvm.ClassFile.FieldType.int) [((0 : Nat), (9 : Nat), (12 : Nat), (18 : Nat))]) ∈ lw_all := lw_g (lw_at lw_m7 15 rfl) rfl
theorem q1590 : (Jvm.Cond.methodLink "TwinInkLaw" (108 : Nat) ({ cls := "TwinInk", name := "odd", desc := "(I)I" } : Jvm.MethodName)) ∈ lw_all := lw_g (lw_at lw_m7 16 rfl) rfl
theorem q1606 : (Jvm.Cond.methodLink "TwinInkLaw" (255 : Nat) ({ cls := "TwinInkLaw", name := "far", desc := "(LTwinInk;II[J)I" } : Jvm.MethodName)) ∈ lw_all := lw_g (lw_at lw_m7 32 rfl) rfl
theorem q1607 : (Jvm.Cond.static ({ cls := "TwinInkLaw", name := "far", desc := "(LTwinInk;II[J)I" } : Jvm.MethodName)) ∈ lw_all := lw_g (lw_at lw_m7 33 rfl) rfl
theorem q1608 : (Jvm.Cond.codeWith ({ cls := "TwinInkLaw", name := "far", desc := "(LTwinInk;II[J)I" } : Jvm.MethodName) method_34_code (5 : Nat) (Option.some Jvm.ClassFile.FieldType.int) [((0 : Nat), (10 : Nat), (13 : Nat), (18 : Nat))]) ∈ lw_all := lw_g (lw_at lw_m7 34 rfl) rfl
theorem q1609 : (Jvm.Cond.methodLink "TwinInkLaw" (111 : Nat) ({ cls := "TwinInk", name := "far", desc := "(II)I" } : Jvm.MethodName)) ∈ lw_all := lw_g (lw_at lw_m7 35 rfl) rfl
theorem q1613 : (Jvm.Cond.methodLink "TwinInkLaw" (258 : Nat) ({ cls := "TwinInkLaw", name := "unread", desc := "(LTwinInk;I[J)I" } : Jvm.MethodName)) ∈ lw_all := lw_g (lw_at lw_m7 39 rfl) rfl
theorem q1614 : (Jvm.Cond.static ({ cls := "TwinInkLaw", name := "unread", desc := "(LTwinInk;I[J)I" } : Jvm.MethodName)) ∈ lw_all := lw_g (lw_at lw_m7 40 rfl) rfl
theorem q1615 : (Jvm.Cond.codeWith ({ cls := "TwinInkLaw", name := "unread", desc := "(LTwinInk;I[J)I" } : Jvm.MethodName) method_35_code (4 : Nat) (Option.some Jvm.ClassFile.FieldType.int) [((0 : Nat), (9 : Nat), (12 : Nat), (13 : Nat))]) ∈ lw_all := lw_g (lw_at lw_m7 41 rfl) rfl
theorem q1616 : (Jvm.Cond.methodLink "TwinInkLaw" (114 : Nat) ({ cls := "TwinInk", name := "unread", desc := "(I)I" } : Jvm.MethodName)) ∈ lw_all := lw_g (lw_at lw_m7 42 rfl) rfl
theorem q1620 : (Jvm.Cond.methodLink "TwinInkLaw" (261 : Nat) ({ cls := "TwinInkLaw", name := "heir", desc := "(LTwinInk;I[J)I" } : Jvm.MethodName)) ∈ lw_all := lw_g (lw_at lw_m7 46 rfl) rfl
theorem q1621 : (Jvm.Cond.static ({ cls := "TwinInkLaw", name := "heir", desc := "(LTwinInk;I[J)I" } : Jvm.MethodName)) ∈ lw_all := lw_g (lw_at lw_m7 47 rfl) rfl
theorem q1622 : (Jvm.Cond.codeWith ({ cls := "TwinInkLaw", name := "heir", desc := "(LTwinInk;I[J)I" } : Jvm.MethodName) method_36_code (4 : Nat) (Option.some Jvm.ClassFile.FieldType.int) [((0 : Nat), (9 : Nat), (12 : Nat), (18 : Nat))]) ∈ lw_all := lw_g (lw_at lw_m7 48 rfl) rfl
theorem q1623 : (Jvm.Cond.methodLink "TwinInkLaw" (117 : Nat) ({ cls := "TwinInk", name := "heir", desc := "(I)I" } : Jvm.MethodName)) ∈ lw_all := lw_g (lw_at lw_m7 49 rfl) rfl
theorem q1627 : (Jvm.Cond.methodLink "TwinInkLaw" (264 : Nat) ({ cls := "TwinInkLaw", name := "laid", desc := "(LTwinInk;I[J)I" } : Jvm.MethodName)) ∈ lw_all := lw_g (lw_at lw_m7 53 rfl) rfl
theorem q1628 : (Jvm.Cond.static ({ cls := "TwinInkLaw", name := "laid", desc := "(LTwinInk;I[J)I" } : Jvm.MethodName)) ∈ lw_all := lw_g (lw_at lw_m7 54 rfl) rfl
theorem q1629 : (Jvm.Cond.codeWith ({ cls := "TwinInkLaw", name := "laid", desc := "(LTwinInk;I[J)I" } : Jvm.MethodName) method_37_code (4 : Nat) (Option.some Jvm.ClassFile.FieldType.int) [((0 : Nat), (9 : Nat), (12 : Nat), (13 : Nat))]) ∈ lw_all := lw_g (lw_at lw_m7 55 rfl) rfl
theorem q1630 : (Jvm.Cond.methodLink "TwinInkLaw" (120 : Nat) ({ cls := "TwinInk", name := "laid", desc := "(I)I" } : Jvm.MethodName)) ∈ lw_all := lw_g (lw_at lw_m7 56 rfl) rfl
theorem q1638 : (Jvm.Cond.classLink "TwinInkLaw" (124 : Nat) "TwinInkModel") ∈ lw_all := lw_g (lw_at lw_m7 64 rfl) rfl
theorem q1640 : (Jvm.Cond.methodLink "TwinInkLaw" (126 : Nat) ({ cls := "TwinInkModel", name := "<init>", desc := "()V" } : Jvm.MethodName)) ∈ lw_all := lw_g (lw_at lw_m7 66 rfl) rfl
theorem q1832 : (Jvm.Cond.methodLink "TwinInkLaw" (138 : Nat) ({ cls := "TwinInkModel", name := "thrown", desc := "()I" } : Jvm.MethodName)) ∈ lw_all := lw_g (lw_at lw_m8 18 rfl) rfl
theorem q1836 : (Jvm.Cond.methodLink "TwinInkLaw" (131 : Nat) ({ cls := "TwinInkModel", name := "feed", desc := "(IIIII)I" } : Jvm.MethodName)) ∈ lw_all := lw_g (lw_at lw_m8 22 rfl) rfl
theorem q1844 : (Jvm.Cond.methodLink "TwinInkLaw" (137 : Nat) ({ cls := "TwinInkModel", name := "office", desc := "(I)I" } : Jvm.MethodName)) ∈ lw_all := lw_g (lw_at lw_m8 30 rfl) rfl
theorem q1971 : (Jvm.Cond.methodLink "TwinInkLaw" (145 : Nat) ({ cls := "TwinInkModel", name := "fault", desc := "()I" } : Jvm.MethodName)) ∈ lw_all := lw_g (lw_at lw_m8 157 rfl) rfl
theorem q1975 : (Jvm.Cond.methodLink "TwinInkLaw" (182 : Nat) ({ cls := "TwinInkModel", name := "undo", desc := "()I" } : Jvm.MethodName)) ∈ lw_all := lw_g (lw_at lw_m8 161 rfl) rfl
theorem q1979 : (Jvm.Cond.methodLink "TwinInkLaw" (148 : Nat) ({ cls := "TwinInkModel", name := "count", desc := "(I)I" } : Jvm.MethodName)) ∈ lw_all := lw_g (lw_at lw_m8 165 rfl) rfl
theorem q2024 : (Jvm.Cond.methodLink "TwinInkLaw" (152 : Nat) ({ cls := "TwinInkModel", name := "sheet", desc := "(II)I" } : Jvm.MethodName)) ∈ lw_all := lw_g (lw_at lw_m8 210 rfl) rfl
theorem q2052 : (Jvm.Cond.methodLink "TwinInkLaw" (155 : Nat) ({ cls := "TwinInkModel", name := "clerk", desc := "(II)I" } : Jvm.MethodName)) ∈ lw_all := lw_g (lw_at lw_m8 238 rfl) rfl
theorem q2060 : (Jvm.Cond.methodLink "TwinInkLaw" (158 : Nat) ({ cls := "TwinInkModel", name := "word", desc := "(II)I" } : Jvm.MethodName)) ∈ lw_all := lw_g (lw_at lw_m9 6 rfl) rfl
theorem q2084 : (Jvm.Cond.methodLink "TwinInkLaw" (161 : Nat) ({ cls := "TwinInkModel", name := "town", desc := "(II)I" } : Jvm.MethodName)) ∈ lw_all := lw_g (lw_at lw_m9 30 rfl) rfl
theorem q2108 : (Jvm.Cond.methodLink "TwinInkLaw" (165 : Nat) ({ cls := "TwinInkModel", name := "days", desc := "(I)I" } : Jvm.MethodName)) ∈ lw_all := lw_g (lw_at lw_m9 54 rfl) rfl
theorem q2143 : (Jvm.Cond.methodLink "TwinInkLaw" (168 : Nat) ({ cls := "TwinInkModel", name := "take", desc := "(II)Z" } : Jvm.MethodName)) ∈ lw_all := lw_g (lw_at lw_m9 89 rfl) rfl
theorem q2147 : (Jvm.Cond.methodLink "TwinInkLaw" (171 : Nat) ({ cls := "TwinInkModel", name := "leave", desc := "(II)I" } : Jvm.MethodName)) ∈ lw_all := lw_g (lw_at lw_m9 93 rfl) rfl
theorem q2151 : (Jvm.Cond.methodLink "TwinInkLaw" (175 : Nat) ({ cls := "TwinInkModel", name := "forge", desc := "(III)I" } : Jvm.MethodName)) ∈ lw_all := lw_g (lw_at lw_m9 97 rfl) rfl
theorem q2155 : (Jvm.Cond.methodLink "TwinInkLaw" (178 : Nat) ({ cls := "TwinInkModel", name := "fire", desc := "(I)I" } : Jvm.MethodName)) ∈ lw_all := lw_g (lw_at lw_m9 101 rfl) rfl
theorem q2163 : (Jvm.Cond.methodLink "TwinInkLaw" (185 : Nat) ({ cls := "TwinInkModel", name := "then", desc := "(III)I" } : Jvm.MethodName)) ∈ lw_all := lw_g (lw_at lw_m9 109 rfl) rfl
theorem q2183 : (Jvm.Cond.methodLink "TwinInkLaw" (188 : Nat) ({ cls := "TwinInkModel", name := "where", desc := "(II)I" } : Jvm.MethodName)) ∈ lw_all := lw_g (lw_at lw_m9 129 rfl) rfl
theorem q2187 : (Jvm.Cond.methodLink "TwinInkLaw" (191 : Nat) ({ cls := "TwinInkModel", name := "first", desc := "(II)I" } : Jvm.MethodName)) ∈ lw_all := lw_g (lw_at lw_m9 133 rfl) rfl
theorem q2191 : (Jvm.Cond.methodLink "TwinInkLaw" (194 : Nat) ({ cls := "TwinInkModel", name := "read", desc := "(II)I" } : Jvm.MethodName)) ∈ lw_all := lw_g (lw_at lw_m9 137 rfl) rfl
theorem q2195 : (Jvm.Cond.methodLink "TwinInkLaw" (197 : Nat) ({ cls := "TwinInkModel", name := "mould", desc := "(I)I" } : Jvm.MethodName)) ∈ lw_all := lw_g (lw_at lw_m9 141 rfl) rfl
theorem q2199 : (Jvm.Cond.methodLink "TwinInkLaw" (200 : Nat) ({ cls := "TwinInkModel", name := "meet", desc := "(II)I" } : Jvm.MethodName)) ∈ lw_all := lw_g (lw_at lw_m9 145 rfl) rfl
theorem q2203 : (Jvm.Cond.methodLink "TwinInkLaw" (203 : Nat) ({ cls := "TwinInkModel", name := "gathering", desc := "(I)I" } : Jvm.MethodName)) ∈ lw_all := lw_g (lw_at lw_m9 149 rfl) rfl
theorem q2207 : (Jvm.Cond.methodLink "TwinInkLaw" (206 : Nat) ({ cls := "TwinInkModel", name := "row", desc := "(I)I" } : Jvm.MethodName)) ∈ lw_all := lw_g (lw_at lw_m9 153 rfl) rfl
theorem q2219 : (Jvm.Cond.methodLink "TwinInkLaw" (209 : Nat) ({ cls := "TwinInkModel", name := "toForge", desc := "(II)I" } : Jvm.MethodName)) ∈ lw_all := lw_g (lw_at lw_m9 165 rfl) rfl
theorem q2223 : (Jvm.Cond.methodLink "TwinInkLaw" (212 : Nat) ({ cls := "TwinInkModel", name := "toSave", desc := "(I)I" } : Jvm.MethodName)) ∈ lw_all := lw_g (lw_at lw_m9 169 rfl) rfl
theorem q2227 : (Jvm.Cond.methodLink "TwinInkLaw" (216 : Nat) ({ cls := "TwinInkModel", name := "toRead", desc := "()I" } : Jvm.MethodName)) ∈ lw_all := lw_g (lw_at lw_m9 173 rfl) rfl
theorem q2231 : (Jvm.Cond.methodLink "TwinInkLaw" (219 : Nat) ({ cls := "TwinInkModel", name := "chain", desc := "(II)I" } : Jvm.MethodName)) ∈ lw_all := lw_g (lw_at lw_m9 177 rfl) rfl
theorem q2235 : (Jvm.Cond.methodLink "TwinInkLaw" (223 : Nat) ({ cls := "TwinInkModel", name := "hear", desc := "(IIIZ)I" } : Jvm.MethodName)) ∈ lw_all := lw_g (lw_at lw_m9 181 rfl) rfl
theorem q2239 : (Jvm.Cond.methodLink "TwinInkLaw" (227 : Nat) ({ cls := "TwinInkModel", name := "forget", desc := "()V" } : Jvm.MethodName)) ∈ lw_all := lw_g (lw_at lw_m9 185 rfl) rfl
theorem q2243 : (Jvm.Cond.methodLink "TwinInkLaw" (230 : Nat) ({ cls := "TwinInkModel", name := "borne", desc := "(I)I" } : Jvm.MethodName)) ∈ lw_all := lw_g (lw_at lw_m9 189 rfl) rfl
theorem q2255 : (Jvm.Cond.methodLink "TwinInkLaw" (233 : Nat) ({ cls := "TwinInkModel", name := "ask", desc := "(I)I" } : Jvm.MethodName)) ∈ lw_all := lw_g (lw_at lw_m9 201 rfl) rfl
theorem q2259 : (Jvm.Cond.methodLink "TwinInkLaw" (236 : Nat) ({ cls := "TwinInkModel", name := "fires", desc := "(II)I" } : Jvm.MethodName)) ∈ lw_all := lw_g (lw_at lw_m9 205 rfl) rfl
theorem q2263 : (Jvm.Cond.methodLink "TwinInkLaw" (239 : Nat) ({ cls := "TwinInkModel", name := "game", desc := "(III)I" } : Jvm.MethodName)) ∈ lw_all := lw_g (lw_at lw_m9 209 rfl) rfl
theorem q2279 : (Jvm.Cond.methodLink "TwinInkLaw" (242 : Nat) ({ cls := "TwinInkModel", name := "years", desc := "(III)I" } : Jvm.MethodName)) ∈ lw_all := lw_g (lw_at lw_m9 225 rfl) rfl
theorem q2296 : (Jvm.Cond.methodLink "TwinInkLaw" (245 : Nat) ({ cls := "TwinInkModel", name := "wisest", desc := "(I)I" } : Jvm.MethodName)) ∈ lw_all := lw_g (lw_at lw_m10 2 rfl) rfl
theorem q2300 : (Jvm.Cond.methodLink "TwinInkLaw" (248 : Nat) ({ cls := "TwinInkModel", name := "company", desc := "(III)I" } : Jvm.MethodName)) ∈ lw_all := lw_g (lw_at lw_m10 6 rfl) rfl
theorem q2304 : (Jvm.Cond.methodLink "TwinInkLaw" (251 : Nat) ({ cls := "TwinInkModel", name := "together", desc := "(I)I" } : Jvm.MethodName)) ∈ lw_all := lw_g (lw_at lw_m10 10 rfl) rfl
theorem q2308 : (Jvm.Cond.methodLink "TwinInkLaw" (254 : Nat) ({ cls := "TwinInkModel", name := "odd", desc := "(I)I" } : Jvm.MethodName)) ∈ lw_all := lw_g (lw_at lw_m10 14 rfl) rfl
theorem q2320 : (Jvm.Cond.methodLink "TwinInkLaw" (257 : Nat) ({ cls := "TwinInkModel", name := "far", desc := "(II)I" } : Jvm.MethodName)) ∈ lw_all := lw_g (lw_at lw_m10 26 rfl) rfl
theorem q2324 : (Jvm.Cond.methodLink "TwinInkLaw" (260 : Nat) ({ cls := "TwinInkModel", name := "unread", desc := "(I)I" } : Jvm.MethodName)) ∈ lw_all := lw_g (lw_at lw_m10 30 rfl) rfl
theorem q2328 : (Jvm.Cond.methodLink "TwinInkLaw" (263 : Nat) ({ cls := "TwinInkModel", name := "heir", desc := "(I)I" } : Jvm.MethodName)) ∈ lw_all := lw_g (lw_at lw_m10 34 rfl) rfl
theorem q2332 : (Jvm.Cond.methodLink "TwinInkLaw" (266 : Nat) ({ cls := "TwinInkModel", name := "laid", desc := "(I)I" } : Jvm.MethodName)) ∈ lw_all := lw_g (lw_at lw_m10 38 rfl) rfl
theorem q2340 : (Jvm.Cond.methodLink "TwinInkLaw" (270 : Nat) ({ cls := "TwinInkModel", name := "image", desc := "()V" } : Jvm.MethodName)) ∈ lw_all := lw_g (lw_at lw_m10 46 rfl) rfl
theorem q2344 : (Jvm.Cond.methodLink "TwinInkLaw" (275 : Nat) ({ cls := "TwinInkModel", name := "restore", desc := "()Z" } : Jvm.MethodName)) ∈ lw_all := lw_g (lw_at lw_m10 50 rfl) rfl

